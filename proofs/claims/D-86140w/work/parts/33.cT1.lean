/-! walks of the reference's methods, printed by tools/twin.py -/
section ZCT1
set_option maxHeartbeats 4000000 in
set_option maxRecDepth 100000 in
theorem cpT_wanted_0 {Γ : ZG TW} {D : TD} {B0 d : Nat} {lim : Nat × Nat} (G : ZOk Γ cX1_wanted RX1 2 (KnT D B0) (ZT D B0)) (M : ZRm Γ (d + 1) lim (some .int) "wanted" []) (S : SdT d D B0 Γ.l lim) (hk : 0 ≤ d) {w : TW} (h : pT_wanted_0 (wpT d) (fun v w => Γ.Q (.inl (some (ai v))) w) w) : ZV Γ w 0 [(0, ar (D.x + 1))] [] := by
  refine zt_tok G (fun hw => ?_)
  refine zv_aload_n G rfl rfl dX1_wanted_0 ?_
  refine zt_get (k := 33) (v := ar (D.ad 33 + 1)) G (by decide) q2188 rfl dX1_wanted_1 ?_
  refine zv_aload_n G rfl rfl dX1_wanted_4 ?_
  refine zt_get (k := 32) (v := ai (tI w 32)) G (by decide) q2187 rfl dX1_wanted_5 ?_
  refine zv_iconst (a := 1) G (by decide) dX1_wanted_8 ?_
  refine zv_isub G dX1_wanted_9 ?_
  have o1 := h.1
  have h := h.2
  refine zt_iald (f := 33) G (by decide) rfl (w32_r _) o1.1 o1.2 dX1_wanted_10 ?_
  refine zv_istore_nN G rfl (by decide) dX1_wanted_11 (fun x1_2 ex1_2 => ?_)
  have h := h x1_2 ex1_2
  have rx1_2 : zr x1_2 := by rw [ex1_2]; exact (hw.a 33 _ (by decide))
  refine zv_aload_n G rfl rfl dX1_wanted_12 ?_
  refine zt_get (k := 17) (v := ar (D.ad 17 + 1)) G (by decide) q2172 rfl dX1_wanted_13 ?_
  refine zv_iload_n G rfl rfl dX1_wanted_16 ?_
  have o3 := h.1
  have h := h.2
  refine zt_iald (f := 17) G (by decide) rfl rx1_2 o3.1 o3.2 dX1_wanted_17 ?_
  refine zv_iconst (a := 5) G (by decide) dX1_wanted_18 ?_
  have o5 := h.1
  have h := h.2
  have kj6 : ∀ v4 : Int, v4 = (if (tA w 17 x1_2) = 5 then tA w 15 (w32 ((w32 (4 * (tA w 19 x1_2))) + (tA w 34 (w32 ((tI w 32) - 1))))) else tA w 18 x1_2) → ZV Γ w 56 [(1, ai x1_2), (0, ar (D.x + 1))] (ai v4 :: []) := by
    intro v4 ev4
    have h := h v4 ev4
    have rv4 : zr v4 := by rw [ev4]; exact (zr_ite (hw.a 15 _ (by decide)) (hw.a 18 _ (by decide)))
    exact zv_iret (ty := .int) rv4 G M rfl dX1_wanted_56 h
  refine zv_icmp_ne (tgt := 50) G (hw.a 17 _ (by decide)) (zr_k 5 (by decide) (by decide)) (by decide) dX1_wanted_19 (fun c7 => ?_) (fun c7 => ?_)
  · refine zv_aload_n G rfl rfl dX1_wanted_50 ?_
    refine zt_get (k := 18) (v := ar (D.ad 18 + 1)) G (by decide) q2173 rfl dX1_wanted_51 ?_
    refine zv_iload_n G rfl rfl dX1_wanted_54 ?_
    refine zt_iald (f := 18) G (by decide) rfl rx1_2 (o5.2 c7).1 (o5.2 c7).2 dX1_wanted_55 ?_
    exact kj6 _ (if_neg c7).symm
  · refine zv_aload_n G rfl rfl dX1_wanted_22 ?_
    refine zt_get (k := 15) (v := ar (D.ad 15 + 1)) G (by decide) q2170 rfl dX1_wanted_23 ?_
    refine zv_iconst (a := 4) G (by decide) dX1_wanted_26 ?_
    refine zv_aload_n G rfl rfl dX1_wanted_27 ?_
    refine zt_get (k := 19) (v := ar (D.ad 19 + 1)) G (by decide) q2174 rfl dX1_wanted_28 ?_
    refine zv_iload_n G rfl rfl dX1_wanted_31 ?_
    refine zt_iald (f := 19) G (by decide) rfl rx1_2 (o5.1 c7).1.1 (o5.1 c7).1.2 dX1_wanted_32 ?_
    refine zv_imul G dX1_wanted_33 ?_
    refine zv_aload_n G rfl rfl dX1_wanted_34 ?_
    refine zt_get (k := 34) (v := ar (D.ad 34 + 1)) G (by decide) q2189 rfl dX1_wanted_35 ?_
    refine zv_aload_n G rfl rfl dX1_wanted_38 ?_
    refine zt_get (k := 32) (v := ai (tI w 32)) G (by decide) q2187 rfl dX1_wanted_39 ?_
    refine zv_iconst (a := 1) G (by decide) dX1_wanted_42 ?_
    refine zv_isub G dX1_wanted_43 ?_
    refine zt_iald (f := 34) G (by decide) rfl (w32_r _) (o5.1 c7).2.1.1 (o5.1 c7).2.1.2 dX1_wanted_44 ?_
    refine zv_iadd G dX1_wanted_45 ?_
    refine zt_iald (f := 15) G (by decide) rfl (w32_r _) (o5.1 c7).2.2.1 (o5.1 c7).2.2.2 dX1_wanted_46 ?_
    refine zv_goto (tgt := 56) G (by decide) dX1_wanted_47 ?_
    exact kj6 _ (if_pos c7).symm
set_option maxHeartbeats 4000000 in
set_option maxRecDepth 100000 in
theorem cpT_readAs_62 {Γ : ZG TW} {D : TD} {B0 d : Nat} {lim : Nat × Nat} (G : ZOk Γ cX1_readAs RX1 2 (KnT D B0) (ZT D B0)) (M : ZRm Γ (d + 1) lim none "readAs" []) (S : SdT d D B0 Γ.l lim) (hk : 1 ≤ d) {w : TW} (h : pT_readAs_62 (wpT d) (fun w => Γ.Q (.inl none) w) w) : ZV Γ w 62 [] [] := by
  refine zt_tok G (fun hw => ?_)
  exact zv_vret G M dX1_readAs_62 h
set_option maxHeartbeats 4000000 in
set_option maxRecDepth 100000 in
theorem cpT_readAs_51 {Γ : ZG TW} {D : TD} {B0 d : Nat} {lim : Nat × Nat} (G : ZOk Γ cX1_readAs RX1 2 (KnT D B0) (ZT D B0)) (M : ZRm Γ (d + 1) lim none "readAs" []) (S : SdT d D B0 Γ.l lim) (hk : 1 ≤ d) {w : TW} (h : pT_readAs_51 (wpT d) (fun w => Γ.Q (.inl none) w) w) : ZV Γ w 51 [(0, ar (D.x + 1))] [] := by
  refine zt_tok G (fun hw => ?_)
  refine zv_aload_n G rfl rfl dX1_readAs_51 ?_
  refine zt_get (k := 7) (v := ai (tI w 7)) G (by decide) q2162 rfl dX1_readAs_52 ?_
  refine zv_if_ne (tgt := 62) G (hw.i 7 (by decide)) (by decide) dX1_readAs_55 (fun c12 => ?_) (fun c12 => ?_)
  · have h := h.2 c12
    exact zv_pick [] rfl (cpT_readAs_62 G M S hk h)
  · have h := h.1 c12
    refine zv_aload_n G rfl rfl dX1_readAs_58 ?_
    refine zt_callV (as := []) G M (S 4 _ rfl _ _ _ h zoks_nil) q2564 q2566 qs68 q2567 md_next rfl (by decide) (Nat.le_of_ble_eq_true rfl) dX1_readAs_59 (fun u13 h => ?_)
    refine zt_tok G (fun hu13 => ?_)
    exact zv_pick [] rfl (cpT_readAs_62 G M S hk h)
set_option maxHeartbeats 4000000 in
set_option maxRecDepth 100000 in
theorem cpT_readAs_0 {Γ : ZG TW} {D : TD} {B0 d : Nat} {lim : Nat × Nat} (G : ZOk Γ cX1_readAs RX1 2 (KnT D B0) (ZT D B0)) (M : ZRm Γ (d + 1) lim none "readAs" []) (S : SdT d D B0 Γ.l lim) (hk : 1 ≤ d) {x1 : Int} {w : TW} (rx1 : zr x1) (h : pT_readAs_0 (wpT d) (fun w => Γ.Q (.inl none) w) x1 w) : ZV Γ w 0 [(0, ar (D.x + 1)), (1, ai x1)] [] := by
  refine zt_tok G (fun hw => ?_)
  refine zv_aload_n G rfl rfl dX1_readAs_0 ?_
  refine zt_get (k := 7) (v := ai (tI w 7)) G (by decide) q2162 rfl dX1_readAs_1 ?_
  have kt15 : ((tI w 7) = 0) ∧ (¬ ((ff_isWord 4 w) = 0)) → ZV Γ w 15 [(0, ar (D.x + 1)), (1, ai x1)] [] := by
    intro c17
    have h := h.1 c17
    refine zv_aload_n G rfl rfl dX1_readAs_15 ?_
    refine zt_callV (as := []) G M (S 4 _ rfl _ _ _ h zoks_nil) q2564 q2566 qs68 q2567 md_next rfl (by decide) (Nat.le_of_ble_eq_true rfl) dX1_readAs_16 (fun u5 h => ?_)
    refine zt_tok G (fun hu5 => ?_)
    refine zv_aload_n G rfl rfl dX1_readAs_19 ?_
    refine zt_get (k := 3) (v := ai (tI u5 3)) G (by decide) q2158 rfl dX1_readAs_20 ?_
    refine zv_iconst (a := 1) G (by decide) dX1_readAs_23 ?_
    refine zv_icmp_eq (tgt := 35) G (hu5.i 3 (by decide)) (zr_k 1 (by decide) (by decide)) (by decide) dX1_readAs_24 (fun c6 => ?_) (fun c6 => ?_)
    · have h := h.1 c6
      refine zv_aload_n G rfl rfl dX1_readAs_35 ?_
      refine zt_get (k := 25) (v := ar (D.ad 25 + 1)) G (by decide) q2180 rfl dX1_readAs_36 ?_
      refine zv_iload_n G rfl rfl dX1_readAs_39 ?_
      refine zv_aload_n G rfl rfl dX1_readAs_40 ?_
      refine zv_aload_n G rfl rfl dX1_readAs_41 ?_
      refine zt_get (k := 18) (v := ar (D.ad 18 + 1)) G (by decide) q2173 rfl dX1_readAs_42 ?_
      refine zv_iload_n G rfl rfl dX1_readAs_45 ?_
      have o7 := h.1
      have h := h.2
      refine zt_iald (f := 18) G (by decide) rfl rx1 o7.1 o7.2 dX1_readAs_46 ?_
      refine zt_callI (as := [ai (tA u5 18 x1)]) G M (S 29 _ rfl _ _ _ h (zoks_cons (hu5.a 18 _ (by decide)) zoks_nil)) q2682 q2684 qs90 q2685 md_binds rfl (by decide) (Nat.le_of_ble_eq_true rfl) dX1_readAs_47 (fun v9 u8 rv9 h => ?_)
      refine zt_tok G (fun hu8 => ?_)
      have o11 := h.1
      have h := h.2
      refine zt_iast (f := 25) G (by decide) rfl rx1 rv9 o11.1 o11.2 dX1_readAs_50 (fun u10 eu10 => ?_)
      have h := h u10 eu10
      refine zt_tok G (fun hu10 => ?_)
      exact zv_pick [0] rfl (cpT_readAs_51 G M S hk h)
    · have h := h.2 c6
      refine zv_aload_n G rfl rfl dX1_readAs_27 ?_
      refine zv_iconst (a := 2) G (by decide) dX1_readAs_28 ?_
      refine zt_callV (as := [ai 2]) G M (S 12 _ rfl _ _ _ h (zoks_cons (zr_k 2 (by decide) (by decide)) zoks_nil)) q2612 q2614 qs73 q2615 md_stop rfl (by decide) (Nat.le_of_ble_eq_true rfl) dX1_readAs_29 (fun u14 h => ?_)
      refine zt_tok G (fun hu14 => ?_)
      refine zv_goto (tgt := 51) G (by decide) dX1_readAs_32 ?_
      exact zv_pick [0] rfl (cpT_readAs_51 G M S hk h)
  have kf16 : ¬ (((tI w 7) = 0) ∧ (¬ ((ff_isWord 4 w) = 0))) → ZV Γ w 62 [(0, ar (D.x + 1)), (1, ai x1)] [] := by
    intro c17
    have h := h.2 c17
    exact zv_pick [] rfl (cpT_readAs_62 G M S hk h)
  refine zv_if_ne (tgt := 62) G (hw.i 7 (by decide)) (by decide) dX1_readAs_4 (fun c18 => ?_) (fun c18 => ?_)
  · exact kf16 (fun q => c18 q.1)
  · refine zv_aload_n G rfl rfl dX1_readAs_7 ?_
    refine zv_iconst (a := 4) G (by decide) dX1_readAs_8 ?_
    refine zt_callI (as := [ai 4]) G M (S 10 _ rfl _ _ _ (fu_isWord (by omega)) (zoks_cons (zr_k 4 (by decide) (by decide)) zoks_nil)) q2604 q2606 qs71 q2607 md_isWord rfl (by decide) (Nat.le_of_ble_eq_true rfl) dX1_readAs_9 (fun v3 u4 _ q => ?_)
    obtain ⟨ev3, eu4⟩ := q
    rw [eu4, ev3]
    refine zv_if_eq (tgt := 62) G (fr_isWord hw (zr_k 4 (by decide) (by decide))) (by decide) dX1_readAs_12 (fun c19 => ?_) (fun c19 => ?_)
    · exact kf16 (fun q => (fun q => q c19) q.2)
    · exact kt15 ⟨c18, c19⟩
set_option maxHeartbeats 4000000 in
set_option maxRecDepth 100000 in
theorem cpT_comesInto_122 {Γ : ZG TW} {D : TD} {B0 d : Nat} {lim : Nat × Nat} (G : ZOk Γ cX1_comesInto RX1 5 (KnT D B0) (ZT D B0)) (M : ZRm Γ (d + 1) lim none "comesInto" []) (S : SdT d D B0 Γ.l lim) (hk : 0 ≤ d) {x1 : Int} {x2 : Int} {w : TW} (rx1 : zr x1) (rx2 : zr x2) (h : pT_comesInto_122 (wpT d) (fun w => Γ.Q (.inl none) w) x1 x2 w) : ZV Γ w 122 [(0, ar (D.x + 1)), (1, ai x1), (2, ai x2)] [] := by
  refine zt_tok G (fun hw => ?_)
  refine zv_aload_n G rfl rfl dX1_comesInto_122 ?_
  refine zt_get (k := 35) (v := ar (D.ad 35 + 1)) G (by decide) q2190 rfl dX1_comesInto_123 ?_
  refine zv_iload_n G rfl rfl dX1_comesInto_126 ?_
  refine zv_iload_n G rfl rfl dX1_comesInto_127 ?_
  have o16 := h.1
  have h := h.2
  refine zt_iast (f := 35) G (by decide) rfl rx2 rx1 o16.1 o16.2 dX1_comesInto_128 (fun u15 eu15 => ?_)
  have h := h u15 eu15
  refine zt_tok G (fun hu15 => ?_)
  refine zv_aload_n G rfl rfl dX1_comesInto_129 ?_
  refine zt_get (k := 34) (v := ar (D.ad 34 + 1)) G (by decide) q2189 rfl dX1_comesInto_130 ?_
  refine zv_iload_n G rfl rfl dX1_comesInto_133 ?_
  refine zv_dup2_11 G rfl rfl dX1_comesInto_134 ?_
  have o17 := h.1
  have h := h.2
  refine zt_iald (f := 34) G (by decide) rfl rx2 o17.1 o17.2 dX1_comesInto_135 ?_
  refine zv_iconst (a := 1) G (by decide) dX1_comesInto_136 ?_
  refine zv_iadd G dX1_comesInto_137 ?_
  have o19 := h.1
  have h := h.2
  refine zt_iast (f := 34) G (by decide) rfl rx2 (w32_r _) o19.1 o19.2 dX1_comesInto_138 (fun u18 eu18 => ?_)
  have h := h u18 eu18
  refine zt_tok G (fun hu18 => ?_)
  exact zv_vret G M dX1_comesInto_139 h
set_option maxHeartbeats 4000000 in
set_option maxRecDepth 100000 in
theorem cpT_comesInto_0 {Γ : ZG TW} {D : TD} {B0 d : Nat} {lim : Nat × Nat} (G : ZOk Γ cX1_comesInto RX1 5 (KnT D B0) (ZT D B0)) (M : ZRm Γ (d + 1) lim none "comesInto" []) (S : SdT d D B0 Γ.l lim) (hk : 0 ≤ d) {x1 : Int} {w : TW} (rx1 : zr x1) (h : pT_comesInto_0 (wpT d) (fun w => Γ.Q (.inl none) w) x1 w) : ZV Γ w 0 [(0, ar (D.x + 1)), (1, ai x1)] [] := by
  refine zt_tok G (fun hw => ?_)
  refine zv_aload_n G rfl rfl dX1_comesInto_0 ?_
  refine zt_get (k := 32) (v := ai (tI w 32)) G (by decide) q2187 rfl dX1_comesInto_1 ?_
  refine zv_iconst (a := 1) G (by decide) dX1_comesInto_4 ?_
  refine zv_isub G dX1_comesInto_5 ?_
  refine zv_istore_nN G rfl (by decide) dX1_comesInto_6 (fun x2_1 ex2_1 => ?_)
  have h := h x2_1 ex2_1
  have rx2_1 : zr x2_1 := by rw [ex2_1]; exact (w32_r _)
  refine zv_aload_n G rfl rfl dX1_comesInto_7 ?_
  refine zt_get (k := 33) (v := ar (D.ad 33 + 1)) G (by decide) q2188 rfl dX1_comesInto_8 ?_
  refine zv_iload_n G rfl rfl dX1_comesInto_11 ?_
  have o2 := h.1
  have h := h.2
  refine zt_iald (f := 33) G (by decide) rfl rx2_1 o2.1 o2.2 dX1_comesInto_12 ?_
  refine zv_istore_nN G rfl (by decide) dX1_comesInto_13 (fun x3_3 ex3_3 => ?_)
  have h := h x3_3 ex3_3
  have rx3_3 : zr x3_3 := by rw [ex3_3]; exact (hw.a 33 _ (by decide))
  refine zv_aload_n G rfl rfl dX1_comesInto_14 ?_
  refine zt_get (k := 35) (v := ar (D.ad 35 + 1)) G (by decide) q2190 rfl dX1_comesInto_15 ?_
  refine zv_iload_n G rfl rfl dX1_comesInto_18 ?_
  have o4 := h.1
  have h := h.2
  refine zt_iald (f := 35) G (by decide) rfl rx2_1 o4.1 o4.2 dX1_comesInto_19 ?_
  refine zv_bipush (a := (-4)) G (by decide) dX1_comesInto_20 ?_
  refine zv_icmp_ne (tgt := 47) G (hw.a 35 _ (by decide)) (zr_k (-4) (by decide) (by decide)) (by decide) dX1_comesInto_22 (fun c5 => ?_) (fun c5 => ?_)
  · have h := h.2 c5
    refine zv_aload_n G rfl rfl dX1_comesInto_47 ?_
    refine zt_get (k := 23) (v := ar (D.ad 23 + 1)) G (by decide) q2178 rfl dX1_comesInto_48 ?_
    refine zv_aload_n G rfl rfl dX1_comesInto_51 ?_
    refine zt_get (k := 35) (v := ar (D.ad 35 + 1)) G (by decide) q2190 rfl dX1_comesInto_52 ?_
    refine zv_iload_n G rfl rfl dX1_comesInto_55 ?_
    have o6 := h.1
    have h := h.2
    refine zt_iald (f := 35) G (by decide) rfl rx2_1 o6.1 o6.2 dX1_comesInto_56 ?_
    refine zv_iload_n G rfl rfl dX1_comesInto_57 ?_
    have o8 := h.1
    have h := h.2
    refine zt_iast (f := 23) G (by decide) rfl (hw.a 35 _ (by decide)) rx1 o8.1 o8.2 dX1_comesInto_58 (fun u7 eu7 => ?_)
    have h := h u7 eu7
    refine zt_tok G (fun hu7 => ?_)
    refine zv_aload_n G rfl rfl dX1_comesInto_59 ?_
    refine zt_get (k := 17) (v := ar (D.ad 17 + 1)) G (by decide) q2172 rfl dX1_comesInto_60 ?_
    refine zv_iload_n G rfl rfl dX1_comesInto_63 ?_
    have o9 := h.1
    have h := h.2
    refine zt_iald (f := 17) G (by decide) rfl rx3_3 o9.1 o9.2 dX1_comesInto_64 ?_
    refine zv_iconst (a := 5) G (by decide) dX1_comesInto_65 ?_
    have o11 := h.1
    have h := h.2
    have kj22 : ∀ v10 : Int, v10 = (if (tA u7 17 x3_3) = 5 then w32 ((tA u7 26 x3_3) * (tA u7 26 x1)) else w32 ((tA u7 26 x3_3) + (tA u7 26 x1))) → ZV Γ u7 98 [(3, ai x3_3), (2, ai x2_1), (0, ar (D.x + 1)), (1, ai x1)] (ai v10 :: []) := by
      intro v10 ev10
      have h := h v10 ev10
      have rv10 : zr v10 := by rw [ev10]; exact (zr_ite (w32_r _) (w32_r _))
      refine zv_istore G (by decide) rfl dX1_comesInto_98 ?_
      refine zv_aload_n G rfl rfl dX1_comesInto_100 ?_
      refine zt_get (k := 26) (v := ar (D.ad 26 + 1)) G (by decide) q2181 rfl dX1_comesInto_101 ?_
      refine zv_iload_n G rfl rfl dX1_comesInto_104 ?_
      refine zv_iload G rfl dX1_comesInto_105 ?_
      refine zv_sipush (a := 1000) G (by decide) dX1_comesInto_107 ?_
      have kj20 : ∀ v12 : Int, v12 = (if ¬ (v10 ≤ 1000) then 1000 else v10) → ZV Γ u7 121 [(4, ai v10), (3, ai x3_3), (2, ai x2_1), (0, ar (D.x + 1)), (1, ai x1)] (ai v12 :: ai x3_3 :: ar (D.ad 26 + 1) :: []) := by
        intro v12 ev12
        have h := h v12 ev12
        have rv12 : zr v12 := by rw [ev12]; exact (zr_ite (zr_k 1000 (by decide) (by decide)) rv10)
        have o14 := h.1
        have h := h.2
        refine zt_iast (f := 26) G (by decide) rfl rx3_3 rv12 o14.1 o14.2 dX1_comesInto_121 (fun u13 eu13 => ?_)
        have h := h u13 eu13
        refine zt_tok G (fun hu13 => ?_)
        exact zv_pick [0, 1, 2] rfl (cpT_comesInto_122 G M S hk rx1 rx2_1 h)
      refine zv_icmp_le (tgt := 119) G rv10 (zr_k 1000 (by decide) (by decide)) (by decide) dX1_comesInto_110 (fun c21 => ?_) (fun c21 => ?_)
      · refine zv_iload G rfl dX1_comesInto_119 ?_
        exact kj20 _ (if_neg (fun q => q c21)).symm
      · refine zv_sipush (a := 1000) G (by decide) dX1_comesInto_113 ?_
        refine zv_goto (tgt := 121) G (by decide) dX1_comesInto_116 ?_
        exact kj20 _ (if_pos c21).symm
    refine zv_icmp_ne (tgt := 85) G (hu7.a 17 _ (by decide)) (zr_k 5 (by decide) (by decide)) (by decide) dX1_comesInto_66 (fun c23 => ?_) (fun c23 => ?_)
    · refine zv_aload_n G rfl rfl dX1_comesInto_85 ?_
      refine zt_get (k := 26) (v := ar (D.ad 26 + 1)) G (by decide) q2181 rfl dX1_comesInto_86 ?_
      refine zv_iload_n G rfl rfl dX1_comesInto_89 ?_
      refine zt_iald (f := 26) G (by decide) rfl rx3_3 (o11.2 c23).1.1 (o11.2 c23).1.2 dX1_comesInto_90 ?_
      refine zv_aload_n G rfl rfl dX1_comesInto_91 ?_
      refine zt_get (k := 26) (v := ar (D.ad 26 + 1)) G (by decide) q2181 rfl dX1_comesInto_92 ?_
      refine zv_iload_n G rfl rfl dX1_comesInto_95 ?_
      refine zt_iald (f := 26) G (by decide) rfl rx1 (o11.2 c23).2.1 (o11.2 c23).2.2 dX1_comesInto_96 ?_
      refine zv_iadd G dX1_comesInto_97 ?_
      exact kj22 _ (if_neg c23).symm
    · refine zv_aload_n G rfl rfl dX1_comesInto_69 ?_
      refine zt_get (k := 26) (v := ar (D.ad 26 + 1)) G (by decide) q2181 rfl dX1_comesInto_70 ?_
      refine zv_iload_n G rfl rfl dX1_comesInto_73 ?_
      refine zt_iald (f := 26) G (by decide) rfl rx3_3 (o11.1 c23).1.1 (o11.1 c23).1.2 dX1_comesInto_74 ?_
      refine zv_aload_n G rfl rfl dX1_comesInto_75 ?_
      refine zt_get (k := 26) (v := ar (D.ad 26 + 1)) G (by decide) q2181 rfl dX1_comesInto_76 ?_
      refine zv_iload_n G rfl rfl dX1_comesInto_79 ?_
      refine zt_iald (f := 26) G (by decide) rfl rx1 (o11.1 c23).2.1 (o11.1 c23).2.2 dX1_comesInto_80 ?_
      refine zv_imul G dX1_comesInto_81 ?_
      refine zv_goto (tgt := 98) G (by decide) dX1_comesInto_82 ?_
      exact kj22 _ (if_pos c23).symm
  · have h := h.1 c5
    refine zv_aload_n G rfl rfl dX1_comesInto_25 ?_
    refine zt_get (k := 22) (v := ar (D.ad 22 + 1)) G (by decide) q2177 rfl dX1_comesInto_26 ?_
    refine zv_iload_n G rfl rfl dX1_comesInto_29 ?_
    refine zv_iload_n G rfl rfl dX1_comesInto_30 ?_
    have o25 := h.1
    have h := h.2
    refine zt_iast (f := 22) G (by decide) rfl rx3_3 rx1 o25.1 o25.2 dX1_comesInto_31 (fun u24 eu24 => ?_)
    have h := h u24 eu24
    refine zt_tok G (fun hu24 => ?_)
    refine zv_aload_n G rfl rfl dX1_comesInto_32 ?_
    refine zt_get (k := 26) (v := ar (D.ad 26 + 1)) G (by decide) q2181 rfl dX1_comesInto_33 ?_
    refine zv_iload_n G rfl rfl dX1_comesInto_36 ?_
    refine zv_aload_n G rfl rfl dX1_comesInto_37 ?_
    refine zt_get (k := 26) (v := ar (D.ad 26 + 1)) G (by decide) q2181 rfl dX1_comesInto_38 ?_
    refine zv_iload_n G rfl rfl dX1_comesInto_41 ?_
    have o26 := h.1
    have h := h.2
    refine zt_iald (f := 26) G (by decide) rfl rx1 o26.1 o26.2 dX1_comesInto_42 ?_
    have o28 := h.1
    have h := h.2
    refine zt_iast (f := 26) G (by decide) rfl rx3_3 (hu24.a 26 _ (by decide)) o28.1 o28.2 dX1_comesInto_43 (fun u27 eu27 => ?_)
    have h := h u27 eu27
    refine zt_tok G (fun hu27 => ?_)
    refine zv_goto (tgt := 122) G (by decide) dX1_comesInto_44 ?_
    exact zv_pick [0, 1, 2] rfl (cpT_comesInto_122 G M S hk rx1 rx2_1 h)
set_option maxHeartbeats 4000000 in
set_option maxRecDepth 100000 in
theorem cpT_endsAlternative_201 {Γ : ZG TW} {D : TD} {B0 d : Nat} {lim : Nat × Nat} (G : ZOk Γ cX1_endsAlternative RX1 5 (KnT D B0) (ZT D B0)) (M : ZRm Γ (d + 1) lim none "endsAlternative" []) (S : SdT d D B0 Γ.l lim) (hk : 0 ≤ d) {w : TW} (h : pT_endsAlternative_201 (wpT d) (fun w => Γ.Q (.inl none) w) w) : ZV Γ w 201 [] [] := by
  refine zt_tok G (fun hw => ?_)
  exact zv_vret G M dX1_endsAlternative_201 h
set_option maxHeartbeats 4000000 in
set_option maxRecDepth 100000 in
theorem cpT_endsAlternative_177 {Γ : ZG TW} {D : TD} {B0 d : Nat} {lim : Nat × Nat} (G : ZOk Γ cX1_endsAlternative RX1 5 (KnT D B0) (ZT D B0)) (M : ZRm Γ (d + 1) lim none "endsAlternative" []) (S : SdT d D B0 Γ.l lim) (hk : 0 ≤ d) {x1 : Int} {x2 : Int} {w : TW} (rx1 : zr x1) (rx2 : zr x2) (h : pT_endsAlternative_177 (wpT d) (fun w => Γ.Q (.inl none) w) x1 x2 w) : ZV Γ w 177 [(0, ar (D.x + 1)), (1, ai x1), (2, ai x2)] [] := by
  refine zt_tok G (fun hw => ?_)
  refine zv_aload_n G rfl rfl dX1_endsAlternative_177 ?_
  refine zt_get (k := 39) (v := ar (D.ad 39 + 1)) G (by decide) q2194 rfl dX1_endsAlternative_178 ?_
  refine zv_iload_n G rfl rfl dX1_endsAlternative_181 ?_
  refine zv_aload_n G rfl rfl dX1_endsAlternative_182 ?_
  refine zt_get (k := 39) (v := ar (D.ad 39 + 1)) G (by decide) q2194 rfl dX1_endsAlternative_183 ?_
  refine zv_iload_n G rfl rfl dX1_endsAlternative_186 ?_
  have o7 := h.1
  have h := h.2
  refine zt_zald (f := 39) G (by decide) rfl rx1 o7.1 o7.2 dX1_endsAlternative_187 ?_
  have kj11 : ∀ v8 : Int, v8 = (if ¬ ((tA w 39 x1) = 0) ∨ (¬ (x2 = 0)) then 1 else 0) → ZV Γ w 200 [(0, ar (D.x + 1)), (1, ai x1), (2, ai x2)] (ai v8 :: ai x1 :: ar (D.ad 39 + 1) :: []) := by
    intro v8 ev8
    have h := h v8 ev8
    have rv8 : zr v8 := by rw [ev8]; exact (zr_ite (zr_k 1 (by decide) (by decide)) (zr_k 0 (by decide) (by decide)))
    have bv8 : v8 = 0 ∨ v8 = 1 := by rw [ev8]; exact (zb_ite (Or.inr rfl) (Or.inl rfl))
    have o10 := h.1
    have h := h.2
    refine zt_zast (f := 39) G (by decide) rfl rx1 o10.1 o10.2 dX1_endsAlternative_200 (fun u9 eu9 => ?_)
    have h := h u9 eu9
    refine zt_tok G (fun hu9 => ?_)
    exact zv_pick [] rfl (cpT_endsAlternative_201 G M S hk h)
  refine zv_if_ne (tgt := 195) G (hw.a 39 _ (by decide)) (by decide) dX1_endsAlternative_188 (fun c12 => ?_) (fun c12 => ?_)
  · refine zv_iconst (a := 1) G (by decide) dX1_endsAlternative_195 ?_
    refine zv_goto (tgt := 200) G (by decide) dX1_endsAlternative_196 ?_
    exact kj11 _ (if_pos (Or.inl c12)).symm
  · refine zv_iload_n G rfl rfl dX1_endsAlternative_191 ?_
    refine zv_if_eq (tgt := 199) G rx2 (by decide) dX1_endsAlternative_192 (fun c13 => ?_) (fun c13 => ?_)
    · refine zv_iconst (a := 0) G (by decide) dX1_endsAlternative_199 ?_
      exact kj11 _ (if_neg (fun q => q.elim (fun z => z c12) (fun q => q c13))).symm
    · refine zv_iconst (a := 1) G (by decide) dX1_endsAlternative_195 ?_
      refine zv_goto (tgt := 200) G (by decide) dX1_endsAlternative_196 ?_
      exact kj11 _ (if_pos (Or.inr c13)).symm
set_option maxHeartbeats 4000000 in
set_option maxRecDepth 100000 in
theorem cpT_endsAlternative_90 {Γ : ZG TW} {D : TD} {B0 d : Nat} {lim : Nat × Nat} (G : ZOk Γ cX1_endsAlternative RX1 5 (KnT D B0) (ZT D B0)) (M : ZRm Γ (d + 1) lim none "endsAlternative" []) (S : SdT d D B0 Γ.l lim) (hk : 0 ≤ d) {x1 : Int} {x2 : Int} {x3 : Int} {w : TW} (rx1 : zr x1) (rx2 : zr x2) (rx3 : zr x3) (h : pT_endsAlternative_90 (wpT d) (fun w => Γ.Q (.inl none) w) x1 x2 x3 w) : ZV Γ w 90 [(0, ar (D.x + 1)), (1, ai x1), (2, ai x2), (3, ai x3)] [] := by
  refine h (fun x2 x3 w => zr x2 → zr x3 → ZV Γ w 90 [(0, ar (D.x + 1)), (1, ai x1), (2, ai x2), (3, ai x3)] []) ?_ rx2 rx3
  clear h
  intro x2 x3 w h rx2 rx3
  have hI90 : ∀ (x2 : Int) (x3 : Int) (w : TW), (fun x2 x3 w => zr x2 → zr x3 → ZV Γ w 90 [(0, ar (D.x + 1)), (1, ai x1), (2, ai x2), (3, ai x3)] []) x2 x3 w → zr x2 → zr x3 → ZV Γ w 90 [(0, ar (D.x + 1)), (1, ai x1), (2, ai x2), (3, ai x3)] [] := fun _ _ _ z => z
  refine zt_tok G (fun hw => ?_)
  refine zv_iload_n G rfl rfl dX1_endsAlternative_90 ?_
  refine zv_bipush (a := 8) G (by decide) dX1_endsAlternative_91 ?_
  refine zv_icmp_ge (tgt := 177) G rx3 (zr_k 8 (by decide) (by decide)) (by decide) dX1_endsAlternative_93 (fun c6 => ?_) (fun c6 => ?_)
  · have h := h.1 c6
    exact zv_pick [0, 1, 2] rfl (cpT_endsAlternative_177 G M S hk rx1 rx2 h)
  · have h := h.2 c6
    refine zv_aload_n G rfl rfl dX1_endsAlternative_96 ?_
    refine zt_get (k := 31) (v := ai (tI w 31)) G (by decide) q2186 rfl dX1_endsAlternative_97 ?_
    refine zv_iload_n G rfl rfl dX1_endsAlternative_100 ?_
    refine zv_ishr G dX1_endsAlternative_101 ?_
    refine zv_iconst (a := 1) G (by decide) dX1_endsAlternative_102 ?_
    refine zv_iand G dX1_endsAlternative_103 ?_
    refine zv_iconst (a := 1) G (by decide) dX1_endsAlternative_104 ?_
    have o15 := h.1
    have h := h.2
    have kj23 : ∀ v14 : Int, v14 = (if ((i_and (i_shr (tI w 31) x3) 1) = 1) ∧ ((i_and (i_shr (tA w 37 x1) x3) 1) = 0) then 1 else 0) → ZV Γ w 126 [(0, ar (D.x + 1)), (1, ai x1), (2, ai x2), (3, ai x3)] (ai v14 :: []) := by
      intro v14 ev14
      have h := h v14 ev14
      have rv14 : zr v14 := by rw [ev14]; exact (zr_ite (zr_k 1 (by decide) (by decide)) (zr_k 0 (by decide) (by decide)))
      have bv14 : v14 = 0 ∨ v14 = 1 := by rw [ev14]; exact (zb_ite (Or.inr rfl) (Or.inl rfl))
      refine zv_istore G (by decide) rfl dX1_endsAlternative_126 ?_
      refine zv_iload_n G rfl rfl dX1_endsAlternative_128 ?_
      have o17 := h.1
      have h := h.2
      have kj19 : ∀ v16 : Int, v16 = (if ¬ (x2 = 0) ∨ (¬ (v14 = 0) ∧ (¬ ((tA w 40 (w32 ((w32 (8 * x1)) + x3))) = (tA w 30 (w32 ((w32 (8 * (tI w 27))) + x3)))))) then 1 else 0) → ZV Γ w 170 [(4, ai v14), (0, ar (D.x + 1)), (1, ai x1), (2, ai x2), (3, ai x3)] (ai v16 :: []) := by
        intro v16 ev16
        have h := h v16 ev16
        have rv16 : zr v16 := by rw [ev16]; exact (zr_ite (zr_k 1 (by decide) (by decide)) (zr_k 0 (by decide) (by decide)))
        have bv16 : v16 = 0 ∨ v16 = 1 := by rw [ev16]; exact (zb_ite (Or.inr rfl) (Or.inl rfl))
        refine zv_istore_n G rfl (by decide) rfl dX1_endsAlternative_170 ?_
        refine zv_iincN G rfl (by decide) dX1_endsAlternative_171 (fun x3_18 ex3_18 => ?_)
        have h := h x3_18 ex3_18
        have rx3_18 : zr x3_18 := by rw [ex3_18]; exact w32_r _
        refine zv_goto (tgt := 90) G (by decide) dX1_endsAlternative_174 ?_
        exact zv_pick [0, 1, 2, 3] rfl (hI90 _ _ _ h rv16 rx3_18)
      refine zv_if_ne (tgt := 165) G rx2 (by decide) dX1_endsAlternative_129 (fun c20 => ?_) (fun c20 => ?_)
      · refine zv_iconst (a := 1) G (by decide) dX1_endsAlternative_165 ?_
        refine zv_goto (tgt := 170) G (by decide) dX1_endsAlternative_166 ?_
        exact kj19 _ (if_pos (Or.inl c20)).symm
      · refine zv_iload G rfl dX1_endsAlternative_132 ?_
        refine zv_if_eq (tgt := 169) G rv14 (by decide) dX1_endsAlternative_134 (fun c21 => ?_) (fun c21 => ?_)
        · refine zv_iconst (a := 0) G (by decide) dX1_endsAlternative_169 ?_
          exact kj19 _ (if_neg (fun q => q.elim (fun z => z c20) (fun q => q.1 c21))).symm
        · refine zv_aload_n G rfl rfl dX1_endsAlternative_137 ?_
          refine zt_get (k := 40) (v := ar (D.ad 40 + 1)) G (by decide) q2195 rfl dX1_endsAlternative_138 ?_
          refine zv_bipush (a := 8) G (by decide) dX1_endsAlternative_141 ?_
          refine zv_iload_n G rfl rfl dX1_endsAlternative_143 ?_
          refine zv_imul G dX1_endsAlternative_144 ?_
          refine zv_iload_n G rfl rfl dX1_endsAlternative_145 ?_
          refine zv_iadd G dX1_endsAlternative_146 ?_
          refine zt_iald (f := 40) G (by decide) rfl (w32_r _) ((o17 c20) c21).1.1 ((o17 c20) c21).1.2 dX1_endsAlternative_147 ?_
          refine zv_aload_n G rfl rfl dX1_endsAlternative_148 ?_
          refine zt_get (k := 30) (v := ar (D.ad 30 + 1)) G (by decide) q2185 rfl dX1_endsAlternative_149 ?_
          refine zv_bipush (a := 8) G (by decide) dX1_endsAlternative_152 ?_
          refine zv_aload_n G rfl rfl dX1_endsAlternative_154 ?_
          refine zt_get (k := 27) (v := ai (tI w 27)) G (by decide) q2182 rfl dX1_endsAlternative_155 ?_
          refine zv_imul G dX1_endsAlternative_158 ?_
          refine zv_iload_n G rfl rfl dX1_endsAlternative_159 ?_
          refine zv_iadd G dX1_endsAlternative_160 ?_
          refine zt_iald (f := 30) G (by decide) rfl (w32_r _) ((o17 c20) c21).2.1 ((o17 c20) c21).2.2 dX1_endsAlternative_161 ?_
          refine zv_icmp_eq (tgt := 169) G (hw.a 40 _ (by decide)) (hw.a 30 _ (by decide)) (by decide) dX1_endsAlternative_162 (fun c22 => ?_) (fun c22 => ?_)
          · refine zv_iconst (a := 0) G (by decide) dX1_endsAlternative_169 ?_
            exact kj19 _ (if_neg (fun q => q.elim (fun z => z c20) (fun q => (fun q => q c22) q.2))).symm
          · refine zv_iconst (a := 1) G (by decide) dX1_endsAlternative_165 ?_
            refine zv_goto (tgt := 170) G (by decide) dX1_endsAlternative_166 ?_
            exact kj19 _ (if_pos (Or.inr ⟨c21, c22⟩)).symm
    refine zv_icmp_ne (tgt := 125) G (by first | exact i_and_r _ _ | exact i_or_r _ _ | exact i_shl_r _ _ | exact i_shr_r _ _ | exact i_ushr_r _ _ | exact i_b_r _ | exact i_c_r _ | exact i_xor_r _ _ | exact i_div_r _ _ | exact i_rem_r _ _ | exact zr_of _) (zr_k 1 (by decide) (by decide)) (by decide) dX1_endsAlternative_105 (fun c24 => ?_) (fun c24 => ?_)
    · refine zv_iconst (a := 0) G (by decide) dX1_endsAlternative_125 ?_
      exact kj23 _ (if_neg (fun q => c24 q.1)).symm
    · refine zv_aload_n G rfl rfl dX1_endsAlternative_108 ?_
      refine zt_get (k := 37) (v := ar (D.ad 37 + 1)) G (by decide) q2192 rfl dX1_endsAlternative_109 ?_
      refine zv_iload_n G rfl rfl dX1_endsAlternative_112 ?_
      refine zt_iald (f := 37) G (by decide) rfl rx1 (o15 c24).1 (o15 c24).2 dX1_endsAlternative_113 ?_
      refine zv_iload_n G rfl rfl dX1_endsAlternative_114 ?_
      refine zv_ishr G dX1_endsAlternative_115 ?_
      refine zv_iconst (a := 1) G (by decide) dX1_endsAlternative_116 ?_
      refine zv_iand G dX1_endsAlternative_117 ?_
      refine zv_if_ne (tgt := 125) G (by first | exact i_and_r _ _ | exact i_or_r _ _ | exact i_shl_r _ _ | exact i_shr_r _ _ | exact i_ushr_r _ _ | exact i_b_r _ | exact i_c_r _ | exact i_xor_r _ _ | exact i_div_r _ _ | exact i_rem_r _ _ | exact zr_of _) (by decide) dX1_endsAlternative_118 (fun c25 => ?_) (fun c25 => ?_)
      · refine zv_iconst (a := 0) G (by decide) dX1_endsAlternative_125 ?_
        exact kj23 _ (if_neg (fun q => c25 q.2)).symm
      · refine zv_iconst (a := 1) G (by decide) dX1_endsAlternative_121 ?_
        refine zv_goto (tgt := 126) G (by decide) dX1_endsAlternative_122 ?_
        exact kj23 _ (if_pos ⟨c24, c25⟩).symm
set_option maxHeartbeats 4000000 in
set_option maxRecDepth 100000 in
theorem cpT_endsAlternative_66 {Γ : ZG TW} {D : TD} {B0 d : Nat} {lim : Nat × Nat} (G : ZOk Γ cX1_endsAlternative RX1 5 (KnT D B0) (ZT D B0)) (M : ZRm Γ (d + 1) lim none "endsAlternative" []) (S : SdT d D B0 Γ.l lim) (hk : 0 ≤ d) {w : TW} (h : pT_endsAlternative_66 (wpT d) (fun w => Γ.Q (.inl none) w) w) : ZV Γ w 66 [] [] := by
  refine zt_tok G (fun hw => ?_)
  refine zv_goto (tgt := 201) G (by decide) dX1_endsAlternative_66 ?_
  exact zv_pick [] rfl (cpT_endsAlternative_201 G M S hk h)
set_option maxHeartbeats 4000000 in
set_option maxRecDepth 100000 in
theorem cpT_endsAlternative_29 {Γ : ZG TW} {D : TD} {B0 d : Nat} {lim : Nat × Nat} (G : ZOk Γ cX1_endsAlternative RX1 5 (KnT D B0) (ZT D B0)) (M : ZRm Γ (d + 1) lim none "endsAlternative" []) (S : SdT d D B0 Γ.l lim) (hk : 0 ≤ d) {x1 : Int} {x2 : Int} {w : TW} (rx1 : zr x1) (rx2 : zr x2) (h : pT_endsAlternative_29 (wpT d) (fun w => Γ.Q (.inl none) w) x1 x2 w) : ZV Γ w 29 [(0, ar (D.x + 1)), (1, ai x1), (2, ai x2)] [] := by
  refine h (fun x2 w => zr x2 → ZV Γ w 29 [(0, ar (D.x + 1)), (1, ai x1), (2, ai x2)] []) ?_ rx2
  clear h
  intro x2 w h rx2
  have hI29 : ∀ (x2 : Int) (w : TW), (fun x2 w => zr x2 → ZV Γ w 29 [(0, ar (D.x + 1)), (1, ai x1), (2, ai x2)] []) x2 w → zr x2 → ZV Γ w 29 [(0, ar (D.x + 1)), (1, ai x1), (2, ai x2)] [] := fun _ _ z => z
  refine zt_tok G (fun hw => ?_)
  refine zv_iload_n G rfl rfl dX1_endsAlternative_29 ?_
  refine zv_bipush (a := 8) G (by decide) dX1_endsAlternative_30 ?_
  refine zv_icmp_ge (tgt := 66) G rx2 (zr_k 8 (by decide) (by decide)) (by decide) dX1_endsAlternative_32 (fun c30 => ?_) (fun c30 => ?_)
  · have h := h.1 c30
    exact zv_pick [] rfl (cpT_endsAlternative_66 G M S hk h)
  · have h := h.2 c30
    refine zv_aload_n G rfl rfl dX1_endsAlternative_35 ?_
    refine zt_get (k := 40) (v := ar (D.ad 40 + 1)) G (by decide) q2195 rfl dX1_endsAlternative_36 ?_
    refine zv_bipush (a := 8) G (by decide) dX1_endsAlternative_39 ?_
    refine zv_iload_n G rfl rfl dX1_endsAlternative_41 ?_
    refine zv_imul G dX1_endsAlternative_42 ?_
    refine zv_iload_n G rfl rfl dX1_endsAlternative_43 ?_
    refine zv_iadd G dX1_endsAlternative_44 ?_
    refine zv_aload_n G rfl rfl dX1_endsAlternative_45 ?_
    refine zt_get (k := 30) (v := ar (D.ad 30 + 1)) G (by decide) q2185 rfl dX1_endsAlternative_46 ?_
    refine zv_bipush (a := 8) G (by decide) dX1_endsAlternative_49 ?_
    refine zv_aload_n G rfl rfl dX1_endsAlternative_51 ?_
    refine zt_get (k := 27) (v := ai (tI w 27)) G (by decide) q2182 rfl dX1_endsAlternative_52 ?_
    refine zv_imul G dX1_endsAlternative_55 ?_
    refine zv_iload_n G rfl rfl dX1_endsAlternative_56 ?_
    refine zv_iadd G dX1_endsAlternative_57 ?_
    have o31 := h.1
    have h := h.2
    refine zt_iald (f := 30) G (by decide) rfl (w32_r _) o31.1 o31.2 dX1_endsAlternative_58 ?_
    have o33 := h.1
    have h := h.2
    refine zt_iast (f := 40) G (by decide) rfl (w32_r _) (hw.a 30 _ (by decide)) o33.1 o33.2 dX1_endsAlternative_59 (fun u32 eu32 => ?_)
    have h := h u32 eu32
    refine zt_tok G (fun hu32 => ?_)
    refine zv_iincN G rfl (by decide) dX1_endsAlternative_60 (fun x2_34 ex2_34 => ?_)
    have h := h x2_34 ex2_34
    have rx2_34 : zr x2_34 := by rw [ex2_34]; exact w32_r _
    refine zv_goto (tgt := 29) G (by decide) dX1_endsAlternative_63 ?_
    exact zv_pick [0, 1, 2] rfl (hI29 _ _ h rx2_34)
set_option maxHeartbeats 4000000 in
set_option maxRecDepth 100000 in
theorem cpT_endsAlternative_0 {Γ : ZG TW} {D : TD} {B0 d : Nat} {lim : Nat × Nat} (G : ZOk Γ cX1_endsAlternative RX1 5 (KnT D B0) (ZT D B0)) (M : ZRm Γ (d + 1) lim none "endsAlternative" []) (S : SdT d D B0 Γ.l lim) (hk : 0 ≤ d) {w : TW} (h : pT_endsAlternative_0 (wpT d) (fun w => Γ.Q (.inl none) w) w) : ZV Γ w 0 [(0, ar (D.x + 1))] [] := by
  refine zt_tok G (fun hw => ?_)
  refine zv_aload_n G rfl rfl dX1_endsAlternative_0 ?_
  refine zt_get (k := 32) (v := ai (tI w 32)) G (by decide) q2187 rfl dX1_endsAlternative_1 ?_
  refine zv_iconst (a := 1) G (by decide) dX1_endsAlternative_4 ?_
  refine zv_isub G dX1_endsAlternative_5 ?_
  refine zv_istore_nN G rfl (by decide) dX1_endsAlternative_6 (fun x1_1 ex1_1 => ?_)
  have h := h x1_1 ex1_1
  have rx1_1 : zr x1_1 := by rw [ex1_1]; exact (w32_r _)
  refine zv_aload_n G rfl rfl dX1_endsAlternative_7 ?_
  refine zt_get (k := 34) (v := ar (D.ad 34 + 1)) G (by decide) q2189 rfl dX1_endsAlternative_8 ?_
  refine zv_iload_n G rfl rfl dX1_endsAlternative_11 ?_
  have o2 := h.1
  have h := h.2
  refine zt_iald (f := 34) G (by decide) rfl rx1_1 o2.1 o2.2 dX1_endsAlternative_12 ?_
  refine zv_iconst (a := 1) G (by decide) dX1_endsAlternative_13 ?_
  refine zv_icmp_ne (tgt := 69) G (hw.a 34 _ (by decide)) (zr_k 1 (by decide) (by decide)) (by decide) dX1_endsAlternative_14 (fun c3 => ?_) (fun c3 => ?_)
  · have h := h.2 c3
    refine zv_aload_n G rfl rfl dX1_endsAlternative_69 ?_
    refine zt_get (k := 31) (v := ai (tI w 31)) G (by decide) q2186 rfl dX1_endsAlternative_70 ?_
    refine zv_aload_n G rfl rfl dX1_endsAlternative_73 ?_
    refine zt_get (k := 38) (v := ar (D.ad 38 + 1)) G (by decide) q2193 rfl dX1_endsAlternative_74 ?_
    refine zv_iload_n G rfl rfl dX1_endsAlternative_77 ?_
    have o4 := h.1
    have h := h.2
    refine zt_iald (f := 38) G (by decide) rfl rx1_1 o4.1 o4.2 dX1_endsAlternative_78 ?_
    have kj26 : ∀ v5 : Int, v5 = (if ¬ ((tI w 31) = (tA w 38 x1_1)) then 1 else 0) → ZV Γ w 87 [(1, ai x1_1), (0, ar (D.x + 1))] (ai v5 :: []) := by
      intro v5 ev5
      have h := h v5 ev5
      have rv5 : zr v5 := by rw [ev5]; exact (zr_ite (zr_k 1 (by decide) (by decide)) (zr_k 0 (by decide) (by decide)))
      have bv5 : v5 = 0 ∨ v5 = 1 := by rw [ev5]; exact (zb_ite (Or.inr rfl) (Or.inl rfl))
      refine zv_istore_n G rfl (by decide) rfl dX1_endsAlternative_87 ?_
      refine zv_iconst (a := 0) G (by decide) dX1_endsAlternative_88 ?_
      refine zv_istore_n G rfl (by decide) rfl dX1_endsAlternative_89 ?_
      exact zv_pick [0, 1, 2, 3] rfl (cpT_endsAlternative_90 G M S hk rx1_1 rv5 (zr_k 0 (by decide) (by decide)) h)
    refine zv_icmp_eq (tgt := 86) G (hw.i 31 (by decide)) (hw.a 38 _ (by decide)) (by decide) dX1_endsAlternative_79 (fun c27 => ?_) (fun c27 => ?_)
    · refine zv_iconst (a := 0) G (by decide) dX1_endsAlternative_86 ?_
      exact kj26 _ (if_neg (fun q => q c27)).symm
    · refine zv_iconst (a := 1) G (by decide) dX1_endsAlternative_82 ?_
      refine zv_goto (tgt := 87) G (by decide) dX1_endsAlternative_83 ?_
      exact kj26 _ (if_pos c27).symm
  · have h := h.1 c3
    refine zv_aload_n G rfl rfl dX1_endsAlternative_17 ?_
    refine zt_get (k := 38) (v := ar (D.ad 38 + 1)) G (by decide) q2193 rfl dX1_endsAlternative_18 ?_
    refine zv_iload_n G rfl rfl dX1_endsAlternative_21 ?_
    refine zv_aload_n G rfl rfl dX1_endsAlternative_22 ?_
    refine zt_get (k := 31) (v := ai (tI w 31)) G (by decide) q2186 rfl dX1_endsAlternative_23 ?_
    have o29 := h.1
    have h := h.2
    refine zt_iast (f := 38) G (by decide) rfl rx1_1 (hw.i 31 (by decide)) o29.1 o29.2 dX1_endsAlternative_26 (fun u28 eu28 => ?_)
    have h := h u28 eu28
    refine zt_tok G (fun hu28 => ?_)
    refine zv_iconst (a := 0) G (by decide) dX1_endsAlternative_27 ?_
    refine zv_istore_n G rfl (by decide) rfl dX1_endsAlternative_28 ?_
    exact zv_pick [0, 1, 2] rfl (cpT_endsAlternative_29 G M S hk rx1_1 (zr_k 0 (by decide) (by decide)) h)
set_option maxHeartbeats 4000000 in
set_option maxRecDepth 100000 in
theorem cpT_goesOn_210 {Γ : ZG TW} {D : TD} {B0 d : Nat} {lim : Nat × Nat} (G : ZOk Γ cX1_goesOn RX1 4 (KnT D B0) (ZT D B0)) (M : ZRm Γ (d + 1) lim (some .boolean) "goesOn" []) (S : SdT d D B0 Γ.l lim) (hk : 1 ≤ d) {w : TW} (h : pT_goesOn_210 (wpT d) (fun v w => Γ.Q (.inl (some (ai v))) w) w) : ZV Γ w 210 [(0, ar (D.x + 1))] [] := by
  refine zt_tok G (fun hw => ?_)
  refine zv_aload_n G rfl rfl dX1_goesOn_210 ?_
  refine zv_bipush (a := 41) G (by decide) dX1_goesOn_211 ?_
  refine zt_callV (as := [ai 41]) G M (S 20 _ rfl _ _ _ h (zoks_cons (zr_k 41 (by decide) (by decide)) zoks_nil)) q2646 q2648 qs81 q2649 md_must rfl (by decide) (Nat.le_of_ble_eq_true rfl) dX1_goesOn_213 (fun u21 h => ?_)
  refine zt_tok G (fun hu21 => ?_)
  refine zv_iconst (a := 0) G (by decide) dX1_goesOn_216 ?_
  exact zv_iret (ty := .boolean) (zr_k 0 (by decide) (by decide)) G M (zn_Z (Or.inl rfl)) dX1_goesOn_217 h
set_option maxHeartbeats 4000000 in
set_option maxRecDepth 100000 in
theorem cpT_goesOn_160 {Γ : ZG TW} {D : TD} {B0 d : Nat} {lim : Nat × Nat} (G : ZOk Γ cX1_goesOn RX1 4 (KnT D B0) (ZT D B0)) (M : ZRm Γ (d + 1) lim (some .boolean) "goesOn" []) (S : SdT d D B0 Γ.l lim) (hk : 1 ≤ d) {x1 : Int} {x3 : Int} {w : TW} (rx1 : zr x1) (rx3 : zr x3) (h : pT_goesOn_160 (wpT d) (fun v w => Γ.Q (.inl (some (ai v))) w) x1 x3 w) : ZV Γ w 160 [(0, ar (D.x + 1)), (1, ai x1), (3, ai x3)] [] := by
  refine h (fun x3 w => zr x3 → ZV Γ w 160 [(0, ar (D.x + 1)), (1, ai x1), (3, ai x3)] []) ?_ rx3
  clear h
  intro x3 w h rx3
  have hI160 : ∀ (x3 : Int) (w : TW), (fun x3 w => zr x3 → ZV Γ w 160 [(0, ar (D.x + 1)), (1, ai x1), (3, ai x3)] []) x3 w → zr x3 → ZV Γ w 160 [(0, ar (D.x + 1)), (1, ai x1), (3, ai x3)] [] := fun _ _ z => z
  refine zt_tok G (fun hw => ?_)
  refine zv_iload_n G rfl rfl dX1_goesOn_160 ?_
  refine zv_bipush (a := 8) G (by decide) dX1_goesOn_161 ?_
  refine zv_icmp_ge (tgt := 210) G rx3 (zr_k 8 (by decide) (by decide)) (by decide) dX1_goesOn_163 (fun c26 => ?_) (fun c26 => ?_)
  · have h := h.1 c26
    exact zv_pick [0] rfl (cpT_goesOn_210 G M S hk h)
  · have h := h.2 c26
    refine zv_aload_n G rfl rfl dX1_goesOn_166 ?_
    refine zt_get (k := 30) (v := ar (D.ad 30 + 1)) G (by decide) q2185 rfl dX1_goesOn_167 ?_
    refine zv_bipush (a := 8) G (by decide) dX1_goesOn_170 ?_
    refine zv_aload_n G rfl rfl dX1_goesOn_172 ?_
    refine zt_get (k := 27) (v := ai (tI w 27)) G (by decide) q2182 rfl dX1_goesOn_173 ?_
    refine zv_imul G dX1_goesOn_176 ?_
    refine zv_iload_n G rfl rfl dX1_goesOn_177 ?_
    refine zv_iadd G dX1_goesOn_178 ?_
    refine zv_aload_n G rfl rfl dX1_goesOn_179 ?_
    refine zt_get (k := 34) (v := ar (D.ad 34 + 1)) G (by decide) q2189 rfl dX1_goesOn_180 ?_
    refine zv_iload_n G rfl rfl dX1_goesOn_183 ?_
    have o27 := h.1
    have h := h.2
    refine zt_iald (f := 34) G (by decide) rfl rx1 o27.1 o27.2 dX1_goesOn_184 ?_
    have o29 := h.1
    have h := h.2
    have kj33 : ∀ v28 : Int, v28 = (if ¬ ((tA w 34 x1) ≤ 0) then tA w 40 (w32 ((w32 (8 * x1)) + x3)) else 0) → ZV Γ w 203 [(0, ar (D.x + 1)), (1, ai x1), (3, ai x3)] (ai v28 :: ai (w32 ((w32 (8 * (tI w 27))) + x3)) :: ar (D.ad 30 + 1) :: []) := by
      intro v28 ev28
      have h := h v28 ev28
      have rv28 : zr v28 := by rw [ev28]; exact (zr_ite (hw.a 40 _ (by decide)) (zr_k 0 (by decide) (by decide)))
      have o31 := h.1
      have h := h.2
      refine zt_iast (f := 30) G (by decide) rfl (w32_r _) rv28 o31.1 o31.2 dX1_goesOn_203 (fun u30 eu30 => ?_)
      have h := h u30 eu30
      refine zt_tok G (fun hu30 => ?_)
      refine zv_iincN G rfl (by decide) dX1_goesOn_204 (fun x3_32 ex3_32 => ?_)
      have h := h x3_32 ex3_32
      have rx3_32 : zr x3_32 := by rw [ex3_32]; exact w32_r _
      refine zv_goto (tgt := 160) G (by decide) dX1_goesOn_207 ?_
      exact zv_pick [0, 1, 3] rfl (hI160 _ _ h rx3_32)
    refine zv_if_le (tgt := 202) G (hw.a 34 _ (by decide)) (by decide) dX1_goesOn_185 (fun c34 => ?_) (fun c34 => ?_)
    · refine zv_iconst (a := 0) G (by decide) dX1_goesOn_202 ?_
      exact kj33 _ (if_neg (fun q => q c34)).symm
    · refine zv_aload_n G rfl rfl dX1_goesOn_188 ?_
      refine zt_get (k := 40) (v := ar (D.ad 40 + 1)) G (by decide) q2195 rfl dX1_goesOn_189 ?_
      refine zv_bipush (a := 8) G (by decide) dX1_goesOn_192 ?_
      refine zv_iload_n G rfl rfl dX1_goesOn_194 ?_
      refine zv_imul G dX1_goesOn_195 ?_
      refine zv_iload_n G rfl rfl dX1_goesOn_196 ?_
      refine zv_iadd G dX1_goesOn_197 ?_
      refine zt_iald (f := 40) G (by decide) rfl (w32_r _) (o29 c34).1 (o29 c34).2 dX1_goesOn_198 ?_
      refine zv_goto (tgt := 203) G (by decide) dX1_goesOn_199 ?_
      exact kj33 _ (if_pos c34).symm
set_option maxHeartbeats 4000000 in
set_option maxRecDepth 100000 in
theorem cpT_goesOn_148 {Γ : ZG TW} {D : TD} {B0 d : Nat} {lim : Nat × Nat} (G : ZOk Γ cX1_goesOn RX1 4 (KnT D B0) (ZT D B0)) (M : ZRm Γ (d + 1) lim (some .boolean) "goesOn" []) (S : SdT d D B0 Γ.l lim) (hk : 1 ≤ d) {x1 : Int} {w : TW} (rx1 : zr x1) (h : pT_goesOn_148 (wpT d) (fun v w => Γ.Q (.inl (some (ai v))) w) x1 w) : ZV Γ w 148 [(0, ar (D.x + 1)), (1, ai x1)] [] := by
  refine zt_tok G (fun hw => ?_)
  refine zv_aload_n G rfl rfl dX1_goesOn_148 ?_
  refine zv_aload_n G rfl rfl dX1_goesOn_149 ?_
  refine zt_get (k := 38) (v := ar (D.ad 38 + 1)) G (by decide) q2193 rfl dX1_goesOn_150 ?_
  refine zv_iload_n G rfl rfl dX1_goesOn_153 ?_
  have o24 := h.1
  have h := h.2
  refine zt_iald (f := 38) G (by decide) rfl rx1 o24.1 o24.2 dX1_goesOn_154 ?_
  refine zt_putI (k := 31) G (by decide) q2186 rfl (tyX1_ok 31 (by decide)) rfl (hw.a 38 _ (by decide)) dX1_goesOn_155 (fun u25 eu25 => ?_)
  have h := h u25 eu25
  refine zt_tok G (fun hu25 => ?_)
  refine zv_iconst (a := 0) G (by decide) dX1_goesOn_158 ?_
  refine zv_istore_n G rfl (by decide) rfl dX1_goesOn_159 ?_
  exact zv_pick [0, 1, 3] rfl (cpT_goesOn_160 G M S hk rx1 (zr_k 0 (by decide) (by decide)) h)
set_option maxHeartbeats 4000000 in
set_option maxRecDepth 100000 in
theorem cpT_goesOn_85 {Γ : ZG TW} {D : TD} {B0 d : Nat} {lim : Nat × Nat} (G : ZOk Γ cX1_goesOn RX1 4 (KnT D B0) (ZT D B0)) (M : ZRm Γ (d + 1) lim (some .boolean) "goesOn" []) (S : SdT d D B0 Γ.l lim) (hk : 1 ≤ d) {w : TW} (h : pT_goesOn_85 (wpT d) (fun v w => Γ.Q (.inl (some (ai v))) w) w) : ZV Γ w 85 [(0, ar (D.x + 1))] [] := by
  refine zt_tok G (fun hw => ?_)
  refine zv_aload_n G rfl rfl dX1_goesOn_85 ?_
  refine zv_bipush (a := 41) G (by decide) dX1_goesOn_86 ?_
  refine zt_callV (as := [ai 41]) G M (S 20 _ rfl _ _ _ h (zoks_cons (zr_k 41 (by decide) (by decide)) zoks_nil)) q2646 q2648 qs81 q2649 md_must rfl (by decide) (Nat.le_of_ble_eq_true rfl) dX1_goesOn_88 (fun u52 h => ?_)
  refine zt_tok G (fun hu52 => ?_)
  refine zv_iconst (a := 0) G (by decide) dX1_goesOn_91 ?_
  exact zv_iret (ty := .boolean) (zr_k 0 (by decide) (by decide)) G M (zn_Z (Or.inl rfl)) dX1_goesOn_92 h
set_option maxHeartbeats 4000000 in
set_option maxRecDepth 100000 in
theorem cpT_goesOn_59 {Γ : ZG TW} {D : TD} {B0 d : Nat} {lim : Nat × Nat} (G : ZOk Γ cX1_goesOn RX1 4 (KnT D B0) (ZT D B0)) (M : ZRm Γ (d + 1) lim (some .boolean) "goesOn" []) (S : SdT d D B0 Γ.l lim) (hk : 1 ≤ d) {w : TW} (h : pT_goesOn_59 (wpT d) (fun v w => Γ.Q (.inl (some (ai v))) w) w) : ZV Γ w 59 [(0, ar (D.x + 1))] [] := by
  refine zt_tok G (fun hw => ?_)
  refine zv_aload_n G rfl rfl dX1_goesOn_59 ?_
  refine zv_bipush (a := 44) G (by decide) dX1_goesOn_60 ?_
  refine zt_callI (as := [ai 44]) G M (S 17 _ rfl _ _ _ h (zoks_cons (zr_k 44 (by decide) (by decide)) zoks_nil)) q2632 q2634 qs78 q2635 md_takes rfl (by decide) (Nat.le_of_ble_eq_true rfl) dX1_goesOn_62 (fun v58 u57 rv58 h => ?_)
  refine zt_tok G (fun hu57 => ?_)
  exact zv_iret (ty := .boolean) rv58 G M (zn_Z h.1) dX1_goesOn_65 h.2
set_option maxHeartbeats 4000000 in
set_option maxRecDepth 100000 in
theorem cpT_goesOn_0 {Γ : ZG TW} {D : TD} {B0 d : Nat} {lim : Nat × Nat} (G : ZOk Γ cX1_goesOn RX1 4 (KnT D B0) (ZT D B0)) (M : ZRm Γ (d + 1) lim (some .boolean) "goesOn" []) (S : SdT d D B0 Γ.l lim) (hk : 1 ≤ d) {w : TW} (h : pT_goesOn_0 (wpT d) (fun v w => Γ.Q (.inl (some (ai v))) w) w) : ZV Γ w 0 [(0, ar (D.x + 1))] [] := by
  refine zt_tok G (fun hw => ?_)
  refine zv_aload_n G rfl rfl dX1_goesOn_0 ?_
  refine zt_get (k := 32) (v := ai (tI w 32)) G (by decide) q2187 rfl dX1_goesOn_1 ?_
  refine zv_iconst (a := 1) G (by decide) dX1_goesOn_4 ?_
  refine zv_isub G dX1_goesOn_5 ?_
  refine zv_istore_nN G rfl (by decide) dX1_goesOn_6 (fun x1_1 ex1_1 => ?_)
  have h := h x1_1 ex1_1
  have rx1_1 : zr x1_1 := by rw [ex1_1]; exact (w32_r _)
  refine zv_aload_n G rfl rfl dX1_goesOn_7 ?_
  refine zt_get (k := 33) (v := ar (D.ad 33 + 1)) G (by decide) q2188 rfl dX1_goesOn_8 ?_
  refine zv_iload_n G rfl rfl dX1_goesOn_11 ?_
  have o2 := h.1
  have h := h.2
  refine zt_iald (f := 33) G (by decide) rfl rx1_1 o2.1 o2.2 dX1_goesOn_12 ?_
  refine zv_istore_nN G rfl (by decide) dX1_goesOn_13 (fun x2_3 ex2_3 => ?_)
  have h := h x2_3 ex2_3
  have rx2_3 : zr x2_3 := by rw [ex2_3]; exact (hw.a 33 _ (by decide))
  refine zv_aload_n G rfl rfl dX1_goesOn_14 ?_
  refine zt_get (k := 17) (v := ar (D.ad 17 + 1)) G (by decide) q2172 rfl dX1_goesOn_15 ?_
  refine zv_iload_n G rfl rfl dX1_goesOn_18 ?_
  have o4 := h.1
  have h := h.2
  refine zt_iald (f := 17) G (by decide) rfl rx2_3 o4.1 o4.2 dX1_goesOn_19 ?_
  refine zv_iconst (a := 5) G (by decide) dX1_goesOn_20 ?_
  refine zv_icmp_ne (tgt := 93) G (hw.a 17 _ (by decide)) (zr_k 5 (by decide) (by decide)) (by decide) dX1_goesOn_21 (fun c11 => ?_) (fun c11 => ?_)
  · have h := h.2 c11
    refine zv_aload_n G rfl rfl dX1_goesOn_93 ?_
    refine zt_callV (as := []) G M (S 37 _ rfl _ _ _ h zoks_nil) q2714 q2716 qs98 q2717 md_endsAlternative rfl (by decide) (Nat.le_of_ble_eq_true rfl) dX1_goesOn_94 (fun u12 h => ?_)
    refine zt_tok G (fun hu12 => ?_)
    refine zv_aload_n G rfl rfl dX1_goesOn_97 ?_
    refine zv_bipush (a := 124) G (by decide) dX1_goesOn_98 ?_
    refine zt_callI (as := [ai 124]) G M (S 17 _ rfl _ _ _ h (zoks_cons (zr_k 124 (by decide) (by decide)) zoks_nil)) q2632 q2634 qs78 q2635 md_takes rfl (by decide) (Nat.le_of_ble_eq_true rfl) dX1_goesOn_100 (fun v14 u13 rv14 h => ?_)
    refine zt_tok G (fun hu13 => ?_)
    refine zv_if_eq (tgt := 118) G rv14 (by decide) dX1_goesOn_103 (fun c17 => ?_) (fun c17 => ?_)
    · have h := h.1 c17
      refine zv_aload_n G rfl rfl dX1_goesOn_118 ?_
      refine zv_bipush (a := 41) G (by decide) dX1_goesOn_119 ?_
      refine zt_callI (as := [ai 41]) G M (S 18 _ rfl _ _ _ (fu_isSign (by omega)) (zoks_cons (zr_k 41 (by decide) (by decide)) zoks_nil)) q2636 q2638 qs79 q2639 md_isSign rfl (by decide) (Nat.le_of_ble_eq_true rfl) dX1_goesOn_121 (fun v18 u19 _ q => ?_)
      obtain ⟨ev18, eu19⟩ := q
      rw [eu19, ev18]
      refine zv_if_eq (tgt := 210) G (fr_isSign hu13 (zr_k 41 (by decide) (by decide))) (by decide) dX1_goesOn_124 (fun c20 => ?_) (fun c20 => ?_)
      · have h := h.1 c20
        exact zv_pick [0] rfl (cpT_goesOn_210 G M S hk h)
      · have h := h.2 c20
        refine zv_aload_n G rfl rfl dX1_goesOn_127 ?_
        refine zt_get (k := 39) (v := ar (D.ad 39 + 1)) G (by decide) q2194 rfl dX1_goesOn_128 ?_
        refine zv_iload_n G rfl rfl dX1_goesOn_131 ?_
        have o22 := h.1
        have h := h.2
        refine zt_zald (f := 39) G (by decide) rfl rx1_1 o22.1 o22.2 dX1_goesOn_132 ?_
        refine zv_if_eq (tgt := 148) G (hu13.a 39 _ (by decide)) (by decide) dX1_goesOn_133 (fun c23 => ?_) (fun c23 => ?_)
        · have h := h.1 c23
          exact zv_pick [0, 1] rfl (cpT_goesOn_148 G M S hk rx1_1 h)
        · have h := h.2 c23
          refine zv_aload_n G rfl rfl dX1_goesOn_136 ?_
          refine zv_bipush (a := 8) G (by decide) dX1_goesOn_137 ?_
          refine zv_aload_n G rfl rfl dX1_goesOn_139 ?_
          refine zt_get (k := 36) (v := ar (D.ad 36 + 1)) G (by decide) q2191 rfl dX1_goesOn_140 ?_
          refine zv_iload_n G rfl rfl dX1_goesOn_143 ?_
          have o35 := h.1
          have h := h.2
          refine zt_iald (f := 36) G (by decide) rfl rx1_1 o35.1 o35.2 dX1_goesOn_144 ?_
          refine zt_callV (as := [ai 8, ai (tA u13 36 x1_1)]) G M (S 13 _ rfl _ _ _ h (zoks_cons (zr_k 8 (by decide) (by decide)) (zoks_cons (hu13.a 36 _ (by decide)) zoks_nil))) q2616 q2618 qs74 q2619 md_fails rfl (by decide) (Nat.le_of_ble_eq_true rfl) dX1_goesOn_145 (fun u36 h => ?_)
          refine zt_tok G (fun hu36 => ?_)
          exact zv_pick [0, 1] rfl (cpT_goesOn_148 G M S hk rx1_1 h)
    · have h := h.2 c17
      refine zv_aload_n G rfl rfl dX1_goesOn_106 ?_
      refine zv_aload_n G rfl rfl dX1_goesOn_107 ?_
      refine zt_get (k := 37) (v := ar (D.ad 37 + 1)) G (by decide) q2192 rfl dX1_goesOn_108 ?_
      refine zv_iload_n G rfl rfl dX1_goesOn_111 ?_
      have o37 := h.1
      have h := h.2
      refine zt_iald (f := 37) G (by decide) rfl rx1_1 o37.1 o37.2 dX1_goesOn_112 ?_
      refine zt_putI (k := 31) G (by decide) q2186 rfl (tyX1_ok 31 (by decide)) rfl (hu13.a 37 _ (by decide)) dX1_goesOn_113 (fun u38 eu38 => ?_)
      have h := h u38 eu38
      refine zt_tok G (fun hu38 => ?_)
      refine zv_iconst (a := 1) G (by decide) dX1_goesOn_116 ?_
      exact zv_iret (ty := .boolean) (zr_k 1 (by decide) (by decide)) G M (zn_Z (Or.inr rfl)) dX1_goesOn_117 h
  · have h := h.1 c11
    refine zv_aload_n G rfl rfl dX1_goesOn_24 ?_
    refine zt_get (k := 34) (v := ar (D.ad 34 + 1)) G (by decide) q2189 rfl dX1_goesOn_25 ?_
    refine zv_iload_n G rfl rfl dX1_goesOn_28 ?_
    have o39 := h.1
    have h := h.2
    refine zt_iald (f := 34) G (by decide) rfl rx1_1 o39.1 o39.2 dX1_goesOn_29 ?_
    refine zv_aload_n G rfl rfl dX1_goesOn_30 ?_
    refine zt_get (k := 14) (v := ar (D.ad 14 + 1)) G (by decide) q2169 rfl dX1_goesOn_31 ?_
    refine zv_aload_n G rfl rfl dX1_goesOn_34 ?_
    refine zt_get (k := 19) (v := ar (D.ad 19 + 1)) G (by decide) q2174 rfl dX1_goesOn_35 ?_
    refine zv_iload_n G rfl rfl dX1_goesOn_38 ?_
    have o40 := h.1
    have h := h.2
    refine zt_iald (f := 19) G (by decide) rfl rx2_3 o40.1 o40.2 dX1_goesOn_39 ?_
    have o41 := h.1
    have h := h.2
    refine zt_iald (f := 14) G (by decide) rfl (hw.a 19 _ (by decide)) o41.1 o41.2 dX1_goesOn_40 ?_
    refine zv_icmp_ge (tgt := 66) G (hw.a 34 _ (by decide)) (hw.a 14 _ (by decide)) (by decide) dX1_goesOn_41 (fun c48 => ?_) (fun c48 => ?_)
    · have h := h.1 c48
      refine zv_aload_n G rfl rfl dX1_goesOn_66 ?_
      refine zv_bipush (a := 44) G (by decide) dX1_goesOn_67 ?_
      refine zt_callI (as := [ai 44]) G M (S 18 _ rfl _ _ _ (fu_isSign (by omega)) (zoks_cons (zr_k 44 (by decide) (by decide)) zoks_nil)) q2636 q2638 qs79 q2639 md_isSign rfl (by decide) (Nat.le_of_ble_eq_true rfl) dX1_goesOn_69 (fun v49 u50 _ q => ?_)
      obtain ⟨ev49, eu50⟩ := q
      rw [eu50, ev49]
      refine zv_if_eq (tgt := 85) G (fr_isSign hw (zr_k 44 (by decide) (by decide))) (by decide) dX1_goesOn_72 (fun c51 => ?_) (fun c51 => ?_)
      · have h := h.1 c51
        exact zv_pick [0] rfl (cpT_goesOn_85 G M S hk h)
      · have h := h.2 c51
        refine zv_aload_n G rfl rfl dX1_goesOn_75 ?_
        refine zv_bipush (a := 6) G (by decide) dX1_goesOn_76 ?_
        refine zv_aload_n G rfl rfl dX1_goesOn_78 ?_
        refine zt_get (k := 5) (v := ai (tI w 5)) G (by decide) q2160 rfl dX1_goesOn_79 ?_
        refine zt_callV (as := [ai 6, ai (tI w 5)]) G M (S 13 _ rfl _ _ _ h (zoks_cons (zr_k 6 (by decide) (by decide)) (zoks_cons (hw.i 5 (by decide)) zoks_nil))) q2616 q2618 qs74 q2619 md_fails rfl (by decide) (Nat.le_of_ble_eq_true rfl) dX1_goesOn_82 (fun u53 h => ?_)
        refine zt_tok G (fun hu53 => ?_)
        exact zv_pick [0] rfl (cpT_goesOn_85 G M S hk h)
    · have h := h.2 c48
      refine zv_aload_n G rfl rfl dX1_goesOn_44 ?_
      refine zv_bipush (a := 44) G (by decide) dX1_goesOn_45 ?_
      refine zt_callI (as := [ai 44]) G M (S 18 _ rfl _ _ _ (fu_isSign (by omega)) (zoks_cons (zr_k 44 (by decide) (by decide)) zoks_nil)) q2636 q2638 qs79 q2639 md_isSign rfl (by decide) (Nat.le_of_ble_eq_true rfl) dX1_goesOn_47 (fun v54 u55 _ q => ?_)
      obtain ⟨ev54, eu55⟩ := q
      rw [eu55, ev54]
      refine zv_if_ne (tgt := 59) G (fr_isSign hw (zr_k 44 (by decide) (by decide))) (by decide) dX1_goesOn_50 (fun c56 => ?_) (fun c56 => ?_)
      · have h := h.2 c56
        exact zv_pick [0] rfl (cpT_goesOn_59 G M S hk h)
      · have h := h.1 c56
        refine zv_aload_n G rfl rfl dX1_goesOn_53 ?_
        refine zv_bipush (a := 6) G (by decide) dX1_goesOn_54 ?_
        refine zt_callV (as := [ai 6]) G M (S 12 _ rfl _ _ _ h (zoks_cons (zr_k 6 (by decide) (by decide)) zoks_nil)) q2612 q2614 qs73 q2615 md_stop rfl (by decide) (Nat.le_of_ble_eq_true rfl) dX1_goesOn_56 (fun u59 h => ?_)
        refine zt_tok G (fun hu59 => ?_)
        exact zv_pick [0] rfl (cpT_goesOn_59 G M S hk h)
set_option maxHeartbeats 4000000 in
set_option maxRecDepth 100000 in
theorem cpT_readPattern_208 {Γ : ZG TW} {D : TD} {B0 d : Nat} {lim : Nat × Nat} (G : ZOk Γ cX1_readPattern RX1 6 (KnT D B0) (ZT D B0)) (M : ZRm Γ (d + 1) lim (some .int) "readPattern" []) (S : SdT d D B0 Γ.l lim) (hk : 1 ≤ d) {x3 : Int} {w : TW} (rx3 : zr x3) (h : pT_readPattern_208 (wpT d) (fun v w => Γ.Q (.inl (some (ai v))) w) x3 w) : ZV Γ w 208 [(3, ai x3)] [] := by
  refine zt_tok G (fun hw => ?_)
  refine zv_iload_n G rfl rfl dX1_readPattern_208 ?_
  exact zv_iret (ty := .int) rx3 G M rfl dX1_readPattern_209 h
set_option maxHeartbeats 4000000 in
set_option maxRecDepth 100000 in
theorem cpT_readPattern_82 {Γ : ZG TW} {D : TD} {B0 d : Nat} {lim : Nat × Nat} (G : ZOk Γ cX1_readPattern RX1 6 (KnT D B0) (ZT D B0)) (M : ZRm Γ (d + 1) lim (some .int) "readPattern" []) (S : SdT d D B0 Γ.l lim) (hk : 1 ≤ d) {x3 : Int} {w : TW} (rx3 : zr x3) (h : pT_readPattern_82 (wpT d) (fun v w => Γ.Q (.inl (some (ai v))) w) x3 w) : ZV Γ w 82 [(3, ai x3)] [] := by
  refine zt_tok G (fun hw => ?_)
  refine zv_goto (tgt := 208) G (by decide) dX1_readPattern_82 ?_
  exact zv_pick [3] rfl (cpT_readPattern_208 G M S hk rx3 h)
set_option maxHeartbeats 4000000 in
set_option maxRecDepth 100000 in
theorem cpT_readPattern_15 {Γ : ZG TW} {D : TD} {B0 d : Nat} {lim : Nat × Nat} (G : ZOk Γ cX1_readPattern RX1 6 (KnT D B0) (ZT D B0)) (M : ZRm Γ (d + 1) lim (some .int) "readPattern" []) (S : SdT d D B0 Γ.l lim) (hk : 1 ≤ d) {x3 : Int} {x4 : Int} {w : TW} (rx3 : zr x3) (rx4 : zr x4) (h : pT_readPattern_15 (wpT d) (fun v w => Γ.Q (.inl (some (ai v))) w) x3 x4 w) : ZV Γ w 15 [(0, ar (D.x + 1)), (3, ai x3), (4, ai x4)] [] := by
  refine h (fun x3 x4 w => zr x3 → zr x4 → ZV Γ w 15 [(0, ar (D.x + 1)), (3, ai x3), (4, ai x4)] []) ?_ rx3 rx4
  clear h
  intro x3 x4 w h rx3 rx4
  have hI15 : ∀ (x3 : Int) (x4 : Int) (w : TW), (fun x3 x4 w => zr x3 → zr x4 → ZV Γ w 15 [(0, ar (D.x + 1)), (3, ai x3), (4, ai x4)] []) x3 x4 w → zr x3 → zr x4 → ZV Γ w 15 [(0, ar (D.x + 1)), (3, ai x3), (4, ai x4)] [] := fun _ _ _ z => z
  refine zt_tok G (fun hw => ?_)
  refine zv_aload_n G rfl rfl dX1_readPattern_15 ?_
  refine zt_get (k := 7) (v := ai (tI w 7)) G (by decide) q2162 rfl dX1_readPattern_16 ?_
  refine zv_if_ne (tgt := 208) G (hw.i 7 (by decide)) (by decide) dX1_readPattern_19 (fun c4 => ?_) (fun c4 => ?_)
  · have h := h.2 c4
    exact zv_pick [3] rfl (cpT_readPattern_208 G M S hk rx3 h)
  · have h := h.1 c4
    refine zv_aload_n G rfl rfl dX1_readPattern_22 ?_
    refine zt_get (k := 32) (v := ai (tI w 32)) G (by decide) q2187 rfl dX1_readPattern_23 ?_
    refine zv_iload G rfl dX1_readPattern_26 ?_
    refine zv_icmp_le (tgt := 63) G (hw.i 32 (by decide)) rx4 (by decide) dX1_readPattern_28 (fun c5 => ?_) (fun c5 => ?_)
    · have h := h.1 c5
      refine zv_aload_n G rfl rfl dX1_readPattern_63 ?_
      refine zv_iload_n G rfl rfl dX1_readPattern_64 ?_
      refine zt_callV (as := [ai x3]) G M (S 34 _ rfl _ _ _ h (zoks_cons rx3 zoks_nil)) q2702 q2704 qs95 q2705 md_readAs rfl (by decide) (Nat.le_of_ble_eq_true rfl) dX1_readPattern_65 (fun u6 h => ?_)
      refine zt_tok G (fun hu6 => ?_)
      refine zv_aload_n G rfl rfl dX1_readPattern_68 ?_
      refine zt_get (k := 7) (v := ai (tI u6 7)) G (by decide) q2162 rfl dX1_readPattern_69 ?_
      refine zv_if_ne (tgt := 208) G (hu6.i 7 (by decide)) (by decide) dX1_readPattern_72 (fun c7 => ?_) (fun c7 => ?_)
      · have h := h.2 c7
        exact zv_pick [3] rfl (cpT_readPattern_208 G M S hk rx3 h)
      · have h := h.1 c7
        refine zv_aload_n G rfl rfl dX1_readPattern_75 ?_
        refine zt_get (k := 32) (v := ai (tI u6 32)) G (by decide) q2187 rfl dX1_readPattern_76 ?_
        refine zv_if_ne (tgt := 85) G (hu6.i 32 (by decide)) (by decide) dX1_readPattern_79 (fun c8 => ?_) (fun c8 => ?_)
        · have h := h.2 c8
          refine zv_aload_n G rfl rfl dX1_readPattern_85 ?_
          refine zv_iload_n G rfl rfl dX1_readPattern_86 ?_
          refine zt_callV (as := [ai x3]) G M (S 35 _ rfl _ _ _ h (zoks_cons rx3 zoks_nil)) q2706 q2708 qs96 q2709 md_comesInto rfl (by decide) (Nat.le_of_ble_eq_true rfl) dX1_readPattern_87 (fun u9 h => ?_)
          refine zt_tok G (fun hu9 => ?_)
          refine zv_aload_n G rfl rfl dX1_readPattern_90 ?_
          refine zt_callI (as := []) G M (S 36 _ rfl _ _ _ h zoks_nil) q2710 q2712 qs97 q2713 md_goesOn rfl (by decide) (Nat.le_of_ble_eq_true rfl) dX1_readPattern_91 (fun v11 u10 rv11 h => ?_)
          refine zt_tok G (fun hu10 => ?_)
          refine zv_if_eq (tgt := 172) G rv11 (by decide) dX1_readPattern_94 (fun c12 => ?_) (fun c12 => ?_)
          · have h := h.1 c12
            refine zv_aload_n G rfl rfl dX1_readPattern_172 ?_
            refine zt_get (k := 7) (v := ai (tI u10 7)) G (by decide) q2162 rfl dX1_readPattern_173 ?_
            refine zv_if_ne (tgt := 15) G (hu10.i 7 (by decide)) (by decide) dX1_readPattern_176 (fun c13 => ?_) (fun c13 => ?_)
            · have h := h.2 c13
              exact zv_pick [0, 3, 4] rfl (hI15 _ _ _ h rx3 rx4)
            · have h := h.1 c13
              refine zv_aload_n G rfl rfl dX1_readPattern_179 ?_
              refine zv_dup G rfl dX1_readPattern_180 ?_
              refine zt_get (k := 32) (v := ai (tI u10 32)) G (by decide) q2187 rfl dX1_readPattern_181 ?_
              refine zv_iconst (a := 1) G (by decide) dX1_readPattern_184 ?_
              refine zv_isub G dX1_readPattern_185 ?_
              refine zt_putI (k := 32) G (by decide) q2187 rfl (tyX1_ok 32 (by decide)) rfl (w32_r _) dX1_readPattern_186 (fun u14 eu14 => ?_)
              have h := h u14 eu14
              refine zt_tok G (fun hu14 => ?_)
              refine zv_aload_n G rfl rfl dX1_readPattern_189 ?_
              refine zt_get (k := 32) (v := ai (tI u14 32)) G (by decide) q2187 rfl dX1_readPattern_190 ?_
              refine zv_istoreN G (by decide) dX1_readPattern_193 (fun x4_15 ex4_15 => ?_)
              have h := h x4_15 ex4_15
              have rx4_15 : zr x4_15 := by rw [ex4_15]; exact (hu14.i 32 (by decide))
              refine zv_aload_n G rfl rfl dX1_readPattern_195 ?_
              refine zt_get (k := 33) (v := ar (D.ad 33 + 1)) G (by decide) q2188 rfl dX1_readPattern_196 ?_
              refine zv_aload_n G rfl rfl dX1_readPattern_199 ?_
              refine zt_get (k := 32) (v := ai (tI u14 32)) G (by decide) q2187 rfl dX1_readPattern_200 ?_
              have o16 := h.1
              have h := h.2
              refine zt_iald (f := 33) G (by decide) rfl (hu14.i 32 (by decide)) o16.1 o16.2 dX1_readPattern_203 ?_
              refine zv_istore_nN G rfl (by decide) dX1_readPattern_204 (fun x3_17 ex3_17 => ?_)
              have h := h x3_17 ex3_17
              have rx3_17 : zr x3_17 := by rw [ex3_17]; exact (hu14.a 33 _ (by decide))
              refine zv_goto (tgt := 15) G (by decide) dX1_readPattern_205 ?_
              exact zv_pick [0, 3, 4] rfl (hI15 _ _ _ h rx3_17 rx4_15)
          · have h := h.2 c12
            refine zv_aload_n G rfl rfl dX1_readPattern_97 ?_
            refine zt_get (k := 17) (v := ar (D.ad 17 + 1)) G (by decide) q2172 rfl dX1_readPattern_98 ?_
            refine zv_aload_n G rfl rfl dX1_readPattern_101 ?_
            refine zt_get (k := 33) (v := ar (D.ad 33 + 1)) G (by decide) q2188 rfl dX1_readPattern_102 ?_
            refine zv_aload_n G rfl rfl dX1_readPattern_105 ?_
            refine zt_get (k := 32) (v := ai (tI u10 32)) G (by decide) q2187 rfl dX1_readPattern_106 ?_
            refine zv_iconst (a := 1) G (by decide) dX1_readPattern_109 ?_
            refine zv_isub G dX1_readPattern_110 ?_
            have o18 := h.1
            have h := h.2
            refine zt_iald (f := 33) G (by decide) rfl (w32_r _) o18.1 o18.2 dX1_readPattern_111 ?_
            have o19 := h.1
            have h := h.2
            refine zt_iald (f := 17) G (by decide) rfl (hu10.a 33 _ (by decide)) o19.1 o19.2 dX1_readPattern_112 ?_
            refine zv_bipush (a := 6) G (by decide) dX1_readPattern_113 ?_
            have o21 := h.1
            have h := h.2
            have kj31 : ∀ v20 : Int, v20 = (if ((tA u10 17 (tA u10 33 (w32 ((tI u10 32) - 1)))) = 6) ∧ ((tA u10 34 (w32 ((tI u10 32) - 1))) = 6) then 1 else 0) → ZV Γ u10 139 [(0, ar (D.x + 1)), (3, ai x3), (4, ai x4)] (ai v20 :: []) := by
              intro v20 ev20
              have h := h v20 ev20
              have rv20 : zr v20 := by rw [ev20]; exact (zr_ite (zr_k 1 (by decide) (by decide)) (zr_k 0 (by decide) (by decide)))
              have bv20 : v20 = 0 ∨ v20 = 1 := by rw [ev20]; exact (zb_ite (Or.inr rfl) (Or.inl rfl))
              refine zv_istore G (by decide) rfl dX1_readPattern_139 ?_
              refine zv_aload_n G rfl rfl dX1_readPattern_141 ?_
              refine zv_aload_n G rfl rfl dX1_readPattern_142 ?_
              have o24 := h.1
              have h := h.2
              refine zt_callI (as := []) G M (S 33 _ rfl _ _ _ (fu_wanted (by omega) o24) zoks_nil) q2698 q2700 qs94 q2701 md_wanted rfl (by decide) (Nat.le_of_ble_eq_true rfl) dX1_readPattern_143 (fun v22 u23 _ q => ?_)
              obtain ⟨ev22, eu23⟩ := q
              rw [eu23, ev22]
              refine zv_aload_n G rfl rfl dX1_readPattern_146 ?_
              refine zt_get (k := 32) (v := ai (tI u10 32)) G (by decide) q2187 rfl dX1_readPattern_147 ?_
              refine zv_bipush (a := 6) G (by decide) dX1_readPattern_150 ?_
              have kj28 : ∀ v25 : Int, v25 = (if ((tI u10 32) = 6) ∨ (¬ (v20 = 0)) then 1 else 0) → ZV Γ u10 165 [(5, ai v20), (0, ar (D.x + 1)), (3, ai x3), (4, ai x4)] (ai v25 :: ai (ff_wanted u10) :: ar (D.x + 1) :: []) := by
                intro v25 ev25
                have h := h v25 ev25
                have rv25 : zr v25 := by rw [ev25]; exact (zr_ite (zr_k 1 (by decide) (by decide)) (zr_k 0 (by decide) (by decide)))
                have bv25 : v25 = 0 ∨ v25 = 1 := by rw [ev25]; exact (zb_ite (Or.inr rfl) (Or.inl rfl))
                refine zt_callI (as := [ai (ff_wanted u10), ai v25]) G M (S 25 _ rfl _ _ _ h (zoks_cons (fr_wanted hu10) (zoks_cons rv25 zoks_nil))) q2666 q2668 qs86 q2669 md_begins rfl (by decide) (Nat.le_of_ble_eq_true rfl) dX1_readPattern_165 (fun v27 u26 rv27 h => ?_)
                refine zt_tok G (fun hu26 => ?_)
                refine zv_istore_n G rfl (by decide) rfl dX1_readPattern_168 ?_
                refine zv_goto (tgt := 15) G (by decide) dX1_readPattern_169 ?_
                exact zv_pick [0, 3, 4] rfl (hI15 _ _ _ h rv27 rx4)
              refine zv_icmp_eq (tgt := 160) G (hu10.i 32 (by decide)) (zr_k 6 (by decide) (by decide)) (by decide) dX1_readPattern_152 (fun c29 => ?_) (fun c29 => ?_)
              · refine zv_iconst (a := 1) G (by decide) dX1_readPattern_160 ?_
                refine zv_goto (tgt := 165) G (by decide) dX1_readPattern_161 ?_
                exact kj28 _ (if_pos (Or.inl c29)).symm
              · refine zv_iload G rfl dX1_readPattern_155 ?_
                refine zv_if_eq (tgt := 164) G rv20 (by decide) dX1_readPattern_157 (fun c30 => ?_) (fun c30 => ?_)
                · refine zv_iconst (a := 0) G (by decide) dX1_readPattern_164 ?_
                  exact kj28 _ (if_neg (fun q => q.elim c29 (fun q => q c30))).symm
                · refine zv_iconst (a := 1) G (by decide) dX1_readPattern_160 ?_
                  refine zv_goto (tgt := 165) G (by decide) dX1_readPattern_161 ?_
                  exact kj28 _ (if_pos (Or.inr c30)).symm
            refine zv_icmp_ne (tgt := 138) G (hu10.a 17 _ (by decide)) (zr_k 6 (by decide) (by decide)) (by decide) dX1_readPattern_115 (fun c32 => ?_) (fun c32 => ?_)
            · refine zv_iconst (a := 0) G (by decide) dX1_readPattern_138 ?_
              exact kj31 _ (if_neg (fun q => c32 q.1)).symm
            · refine zv_aload_n G rfl rfl dX1_readPattern_118 ?_
              refine zt_get (k := 34) (v := ar (D.ad 34 + 1)) G (by decide) q2189 rfl dX1_readPattern_119 ?_
              refine zv_aload_n G rfl rfl dX1_readPattern_122 ?_
              refine zt_get (k := 32) (v := ai (tI u10 32)) G (by decide) q2187 rfl dX1_readPattern_123 ?_
              refine zv_iconst (a := 1) G (by decide) dX1_readPattern_126 ?_
              refine zv_isub G dX1_readPattern_127 ?_
              refine zt_iald (f := 34) G (by decide) rfl (w32_r _) (o21 c32).1 (o21 c32).2 dX1_readPattern_128 ?_
              refine zv_bipush (a := 6) G (by decide) dX1_readPattern_129 ?_
              refine zv_icmp_ne (tgt := 138) G (hu10.a 34 _ (by decide)) (zr_k 6 (by decide) (by decide)) (by decide) dX1_readPattern_131 (fun c33 => ?_) (fun c33 => ?_)
              · refine zv_iconst (a := 0) G (by decide) dX1_readPattern_138 ?_
                exact kj31 _ (if_neg (fun q => c33 q.2)).symm
              · refine zv_iconst (a := 1) G (by decide) dX1_readPattern_134 ?_
                refine zv_goto (tgt := 139) G (by decide) dX1_readPattern_135 ?_
                exact kj31 _ (if_pos ⟨c32, c33⟩).symm
        · have h := h.1 c8
          exact zv_pick [3] rfl (cpT_readPattern_82 G M S hk rx3 h)
    · have h := h.2 c5
      refine zv_aload_n G rfl rfl dX1_readPattern_31 ?_
      refine zt_get (k := 32) (v := ai (tI w 32)) G (by decide) q2187 rfl dX1_readPattern_32 ?_
      refine zv_istoreN G (by decide) dX1_readPattern_35 (fun x4_34 ex4_34 => ?_)
      have h := h x4_34 ex4_34
      have rx4_34 : zr x4_34 := by rw [ex4_34]; exact (hw.i 32 (by decide))
      refine zv_aload_n G rfl rfl dX1_readPattern_37 ?_
      refine zv_aload_n G rfl rfl dX1_readPattern_38 ?_
      have o37 := h.1
      have h := h.2
      refine zt_callI (as := []) G M (S 33 _ rfl _ _ _ (fu_wanted (by omega) o37) zoks_nil) q2698 q2700 qs94 q2701 md_wanted rfl (by decide) (Nat.le_of_ble_eq_true rfl) dX1_readPattern_39 (fun v35 u36 _ q => ?_)
      obtain ⟨ev35, eu36⟩ := q
      rw [eu36, ev35]
      refine zv_aload_n G rfl rfl dX1_readPattern_42 ?_
      refine zt_get (k := 32) (v := ai (tI w 32)) G (by decide) q2187 rfl dX1_readPattern_43 ?_
      refine zv_bipush (a := 6) G (by decide) dX1_readPattern_46 ?_
      have kj41 : ∀ v38 : Int, v38 = (if (tI w 32) = 6 then 1 else 0) → ZV Γ w 56 [(4, ai x4_34), (0, ar (D.x + 1)), (3, ai x3)] (ai v38 :: ai (ff_wanted w) :: ar (D.x + 1) :: []) := by
        intro v38 ev38
        have h := h v38 ev38
        have rv38 : zr v38 := by rw [ev38]; exact (zr_ite (zr_k 1 (by decide) (by decide)) (zr_k 0 (by decide) (by decide)))
        have bv38 : v38 = 0 ∨ v38 = 1 := by rw [ev38]; exact (zb_ite (Or.inr rfl) (Or.inl rfl))
        refine zt_callI (as := [ai (ff_wanted w), ai v38]) G M (S 25 _ rfl _ _ _ h (zoks_cons (fr_wanted hw) (zoks_cons rv38 zoks_nil))) q2666 q2668 qs86 q2669 md_begins rfl (by decide) (Nat.le_of_ble_eq_true rfl) dX1_readPattern_56 (fun v40 u39 rv40 h => ?_)
        refine zt_tok G (fun hu39 => ?_)
        refine zv_istore_n G rfl (by decide) rfl dX1_readPattern_59 ?_
        refine zv_goto (tgt := 15) G (by decide) dX1_readPattern_60 ?_
        exact zv_pick [0, 3, 4] rfl (hI15 _ _ _ h rv40 rx4_34)
      refine zv_icmp_ne (tgt := 55) G (hw.i 32 (by decide)) (zr_k 6 (by decide) (by decide)) (by decide) dX1_readPattern_48 (fun c42 => ?_) (fun c42 => ?_)
      · refine zv_iconst (a := 0) G (by decide) dX1_readPattern_55 ?_
        exact kj41 _ (if_neg c42).symm
      · refine zv_iconst (a := 1) G (by decide) dX1_readPattern_51 ?_
        refine zv_goto (tgt := 56) G (by decide) dX1_readPattern_52 ?_
        exact kj41 _ (if_pos c42).symm
set_option maxHeartbeats 4000000 in
set_option maxRecDepth 100000 in
theorem cpT_readPattern_0 {Γ : ZG TW} {D : TD} {B0 d : Nat} {lim : Nat × Nat} (G : ZOk Γ cX1_readPattern RX1 6 (KnT D B0) (ZT D B0)) (M : ZRm Γ (d + 1) lim (some .int) "readPattern" []) (S : SdT d D B0 Γ.l lim) (hk : 1 ≤ d) {x1 : Int} {x2 : Int} {w : TW} (rx1 : zr x1) (rx2 : zr x2) (h : pT_readPattern_0 (wpT d) (fun v w => Γ.Q (.inl (some (ai v))) w) x1 x2 w) : ZV Γ w 0 [(0, ar (D.x + 1)), (1, ai x1), (2, ai x2)] [] := by
  refine zt_tok G (fun hw => ?_)
  refine zv_aload_n G rfl rfl dX1_readPattern_0 ?_
  refine zv_iconst (a := 0) G (by decide) dX1_readPattern_1 ?_
  refine zt_putI (k := 32) G (by decide) q2187 rfl (tyX1_ok 32 (by decide)) rfl (zr_k 0 (by decide) (by decide)) dX1_readPattern_2 (fun u1 eu1 => ?_)
  have h := h u1 eu1
  refine zt_tok G (fun hu1 => ?_)
  refine zv_aload_n G rfl rfl dX1_readPattern_5 ?_
  refine zv_iload_n G rfl rfl dX1_readPattern_6 ?_
  refine zv_iload_n G rfl rfl dX1_readPattern_7 ?_
  refine zt_callI (as := [ai x1, ai x2]) G M (S 25 _ rfl _ _ _ h (zoks_cons rx1 (zoks_cons rx2 zoks_nil))) q2666 q2668 qs86 q2669 md_begins rfl (by decide) (Nat.le_of_ble_eq_true rfl) dX1_readPattern_8 (fun v3 u2 rv3 h => ?_)
  refine zt_tok G (fun hu2 => ?_)
  refine zv_istore_n G rfl (by decide) rfl dX1_readPattern_11 ?_
  refine zv_iconst (a := 0) G (by decide) dX1_readPattern_12 ?_
  refine zv_istore G (by decide) rfl dX1_readPattern_13 ?_
  exact zv_pick [0, 3, 4] rfl (cpT_readPattern_15 G M S hk rv3 (zr_k 0 (by decide) (by decide)) h)
set_option maxHeartbeats 4000000 in
set_option maxRecDepth 100000 in
theorem cpT_boundName_66 {Γ : ZG TW} {D : TD} {B0 d : Nat} {lim : Nat × Nat} (G : ZOk Γ cX1_boundName RX1 3 (KnT D B0) (ZT D B0)) (M : ZRm Γ (d + 1) lim (some .int) "boundName" []) (S : SdT d D B0 Γ.l lim) (hk : 0 ≤ d) {x2 : Int} {w : TW} (rx2 : zr x2) (h : pT_boundName_66 (wpT d) (fun v w => Γ.Q (.inl (some (ai v))) w) x2 w) : ZV Γ w 66 [(2, ai x2)] [] := by
  refine zt_tok G (fun hw => ?_)
  refine zv_iload_n G rfl rfl dX1_boundName_66 ?_
  exact zv_iret (ty := .int) rx2 G M rfl dX1_boundName_67 h
set_option maxHeartbeats 4000000 in
set_option maxRecDepth 100000 in
theorem cpT_boundName_24 {Γ : ZG TW} {D : TD} {B0 d : Nat} {lim : Nat × Nat} (G : ZOk Γ cX1_boundName RX1 3 (KnT D B0) (ZT D B0)) (M : ZRm Γ (d + 1) lim (some .int) "boundName" []) (S : SdT d D B0 Γ.l lim) (hk : 0 ≤ d) {x2 : Int} {w : TW} (rx2 : zr x2) (h : pT_boundName_24 (wpT d) (fun v w => Γ.Q (.inl (some (ai v))) w) x2 w) : ZV Γ w 24 [(0, ar (D.x + 1)), (2, ai x2)] [] := by
  refine zt_tok G (fun hw => ?_)
  refine zv_aload_n G rfl rfl dX1_boundName_24 ?_
  refine zv_iconst (a := 4) G (by decide) dX1_boundName_25 ?_
  refine zv_aload_n G rfl rfl dX1_boundName_26 ?_
  refine zt_get (k := 5) (v := ai (tI w 5)) G (by decide) q2160 rfl dX1_boundName_27 ?_
  refine zt_callV (as := [ai 4, ai (tI w 5)]) G M (S 13 _ rfl _ _ _ h (zoks_cons (zr_k 4 (by decide) (by decide)) (zoks_cons (hw.i 5 (by decide)) zoks_nil))) q2616 q2618 qs74 q2619 md_fails rfl (by decide) (Nat.le_of_ble_eq_true rfl) dX1_boundName_30 (fun u3 h => ?_)
  refine zt_tok G (fun hu3 => ?_)
  refine zv_goto (tgt := 66) G (by decide) dX1_boundName_33 ?_
  exact zv_pick [2] rfl (cpT_boundName_66 G M S hk rx2 h)
set_option maxHeartbeats 4000000 in
set_option maxRecDepth 100000 in
theorem cpT_boundName_0 {Γ : ZG TW} {D : TD} {B0 d : Nat} {lim : Nat × Nat} (G : ZOk Γ cX1_boundName RX1 3 (KnT D B0) (ZT D B0)) (M : ZRm Γ (d + 1) lim (some .int) "boundName" []) (S : SdT d D B0 Γ.l lim) (hk : 0 ≤ d) {x1 : Int} {w : TW} (rx1 : zr x1) (h : pT_boundName_0 (wpT d) (fun v w => Γ.Q (.inl (some (ai v))) w) x1 w) : ZV Γ w 0 [(0, ar (D.x + 1)), (1, ai x1)] [] := by
  refine zt_tok G (fun hw => ?_)
  refine zv_aload_n G rfl rfl dX1_boundName_0 ?_
  refine zv_aload_n G rfl rfl dX1_boundName_1 ?_
  refine zt_get (k := 4) (v := al (tI w 4)) G (by decide) q2159 rfl dX1_boundName_2 ?_
  refine zt_callI (as := [al (tI w 4)]) G M (S 28 _ rfl _ _ _ h (zoks_cons (hw.l 4 (by decide)) zoks_nil)) q2678 q2680 qs89 q2681 md_nameOf rfl (by decide) (Nat.le_of_ble_eq_true rfl) dX1_boundName_5 (fun v2 u1 rv2 h => ?_)
  refine zt_tok G (fun hu1 => ?_)
  refine zv_istore_n G rfl (by decide) rfl dX1_boundName_8 ?_
  refine zv_iload_n G rfl rfl dX1_boundName_9 ?_
  have kt11 : (v2 < 0) ∨ ((i_and (i_shr (tI u1 31) v2) 1) = 0) → ZV Γ u1 24 [(2, ai v2), (0, ar (D.x + 1)), (1, ai x1)] [] := by
    intro c13
    have h := h.1 c13
    exact zv_pick [0, 2] rfl (cpT_boundName_24 G M S hk rv2 h)
  have kf12 : ¬ ((v2 < 0) ∨ ((i_and (i_shr (tI u1 31) v2) 1) = 0)) → ZV Γ u1 36 [(2, ai v2), (0, ar (D.x + 1)), (1, ai x1)] [] := by
    intro c13
    have h := h.2 c13
    refine zv_iload_n G rfl rfl dX1_boundName_36 ?_
    have o4 := h.1
    have h := h.2
    have kt6 : ¬ (x1 = 0) ∧ (¬ ((tA u1 30 (w32 ((w32 (8 * (tI u1 27))) + v2))) = 0)) → ZV Γ u1 57 [(2, ai v2), (0, ar (D.x + 1)), (1, ai x1)] [] := by
      intro c8
      have h := h.1 c8
      refine zv_aload_n G rfl rfl dX1_boundName_57 ?_
      refine zv_iconst (a := 5) G (by decide) dX1_boundName_58 ?_
      refine zv_aload_n G rfl rfl dX1_boundName_59 ?_
      refine zt_get (k := 5) (v := ai (tI u1 5)) G (by decide) q2160 rfl dX1_boundName_60 ?_
      refine zt_callV (as := [ai 5, ai (tI u1 5)]) G M (S 13 _ rfl _ _ _ h (zoks_cons (zr_k 5 (by decide) (by decide)) (zoks_cons (hu1.i 5 (by decide)) zoks_nil))) q2616 q2618 qs74 q2619 md_fails rfl (by decide) (Nat.le_of_ble_eq_true rfl) dX1_boundName_63 (fun u5 h => ?_)
      refine zt_tok G (fun hu5 => ?_)
      exact zv_pick [2] rfl (cpT_boundName_66 G M S hk rv2 h)
    have kf7 : ¬ (¬ (x1 = 0) ∧ (¬ ((tA u1 30 (w32 ((w32 (8 * (tI u1 27))) + v2))) = 0))) → ZV Γ u1 66 [(2, ai v2), (0, ar (D.x + 1)), (1, ai x1)] [] := by
      intro c8
      have h := h.2 c8
      exact zv_pick [2] rfl (cpT_boundName_66 G M S hk rv2 h)
    refine zv_if_eq (tgt := 66) G rx1 (by decide) dX1_boundName_37 (fun c9 => ?_) (fun c9 => ?_)
    · exact kf7 (fun q => q.1 c9)
    · refine zv_aload_n G rfl rfl dX1_boundName_40 ?_
      refine zt_get (k := 30) (v := ar (D.ad 30 + 1)) G (by decide) q2185 rfl dX1_boundName_41 ?_
      refine zv_bipush (a := 8) G (by decide) dX1_boundName_44 ?_
      refine zv_aload_n G rfl rfl dX1_boundName_46 ?_
      refine zt_get (k := 27) (v := ai (tI u1 27)) G (by decide) q2182 rfl dX1_boundName_47 ?_
      refine zv_imul G dX1_boundName_50 ?_
      refine zv_iload_n G rfl rfl dX1_boundName_51 ?_
      refine zv_iadd G dX1_boundName_52 ?_
      refine zt_iald (f := 30) G (by decide) rfl (w32_r _) (o4 c9).1 (o4 c9).2 dX1_boundName_53 ?_
      refine zv_if_eq (tgt := 66) G (hu1.a 30 _ (by decide)) (by decide) dX1_boundName_54 (fun c10 => ?_) (fun c10 => ?_)
      · exact kf7 (fun q => (fun q => q c10) q.2)
      · exact kt6 ⟨c9, c10⟩
  refine zv_if_lt (tgt := 24) G rv2 (by decide) dX1_boundName_10 (fun c14 => ?_) (fun c14 => ?_)
  · exact kt11 (Or.inl c14)
  · refine zv_aload_n G rfl rfl dX1_boundName_13 ?_
    refine zt_get (k := 31) (v := ai (tI u1 31)) G (by decide) q2186 rfl dX1_boundName_14 ?_
    refine zv_iload_n G rfl rfl dX1_boundName_17 ?_
    refine zv_ishr G dX1_boundName_18 ?_
    refine zv_iconst (a := 1) G (by decide) dX1_boundName_19 ?_
    refine zv_iand G dX1_boundName_20 ?_
    refine zv_if_ne (tgt := 36) G (by first | exact i_and_r _ _ | exact i_or_r _ _ | exact i_shl_r _ _ | exact i_shr_r _ _ | exact i_ushr_r _ _ | exact i_b_r _ | exact i_c_r _ | exact i_xor_r _ _ | exact i_div_r _ _ | exact i_rem_r _ _ | exact zr_of _) (by decide) dX1_boundName_21 (fun c15 => ?_) (fun c15 => ?_)
    · exact kf12 (fun q => q.elim c14 c15)
    · exact kt11 (Or.inr c15)
set_option maxHeartbeats 4000000 in
set_option maxRecDepth 100000 in
theorem cpT_readTerm_82 {Γ : ZG TW} {D : TD} {B0 d : Nat} {lim : Nat × Nat} (G : ZOk Γ cX1_readTerm RX1 2 (KnT D B0) (ZT D B0)) (M : ZRm Γ (d + 1) lim none "readTerm" []) (S : SdT d D B0 Γ.l lim) (hk : 1 ≤ d) {w : TW} (h : pT_readTerm_82 (wpT d) (fun w => Γ.Q (.inl none) w) w) : ZV Γ w 82 [] [] := by
  refine zt_tok G (fun hw => ?_)
  exact zv_vret G M dX1_readTerm_82 h
set_option maxHeartbeats 4000000 in
set_option maxRecDepth 100000 in
theorem cpT_readTerm_57 {Γ : ZG TW} {D : TD} {B0 d : Nat} {lim : Nat × Nat} (G : ZOk Γ cX1_readTerm RX1 2 (KnT D B0) (ZT D B0)) (M : ZRm Γ (d + 1) lim none "readTerm" []) (S : SdT d D B0 Γ.l lim) (hk : 1 ≤ d) {x1 : Int} {w : TW} (rx1 : zr x1) (h : pT_readTerm_57 (wpT d) (fun w => Γ.Q (.inl none) w) x1 w) : ZV Γ w 57 [(0, ar (D.x + 1)), (1, ai x1)] [] := by
  refine zt_tok G (fun hw => ?_)
  refine zv_aload_n G rfl rfl dX1_readTerm_57 ?_
  refine zt_get (k := 50) (v := ar (D.ad 50 + 1)) G (by decide) q2205 rfl dX1_readTerm_58 ?_
  refine zv_iload_n G rfl rfl dX1_readTerm_61 ?_
  refine zv_iconst (a := 1) G (by decide) dX1_readTerm_62 ?_
  have o9 := h.1
  have h := h.2
  refine zt_iast (f := 50) G (by decide) rfl rx1 (zr_k 1 (by decide) (by decide)) o9.1 o9.2 dX1_readTerm_63 (fun u8 eu8 => ?_)
  have h := h u8 eu8
  refine zt_tok G (fun hu8 => ?_)
  refine zv_aload_n G rfl rfl dX1_readTerm_64 ?_
  refine zt_get (k := 51) (v := ar (D.ad 51 + 1)) G (by decide) q2206 rfl dX1_readTerm_65 ?_
  refine zv_iload_n G rfl rfl dX1_readTerm_68 ?_
  refine zv_aload_n G rfl rfl dX1_readTerm_69 ?_
  refine zt_callI (as := []) G M (S 31 _ rfl _ _ _ h zoks_nil) q2690 q2692 qs92 q2693 md_number rfl (by decide) (Nat.le_of_ble_eq_true rfl) dX1_readTerm_70 (fun v11 u10 rv11 h => ?_)
  refine zt_tok G (fun hu10 => ?_)
  have o13 := h.1
  have h := h.2
  refine zt_iast (f := 51) G (by decide) rfl rx1 rv11 o13.1 o13.2 dX1_readTerm_73 (fun u12 eu12 => ?_)
  have h := h u12 eu12
  refine zt_tok G (fun hu12 => ?_)
  refine zv_goto (tgt := 82) G (by decide) dX1_readTerm_74 ?_
  exact zv_pick [] rfl (cpT_readTerm_82 G M S hk h)
set_option maxHeartbeats 4000000 in
set_option maxRecDepth 100000 in
theorem cpT_readTerm_0 {Γ : ZG TW} {D : TD} {B0 d : Nat} {lim : Nat × Nat} (G : ZOk Γ cX1_readTerm RX1 2 (KnT D B0) (ZT D B0)) (M : ZRm Γ (d + 1) lim none "readTerm" []) (S : SdT d D B0 Γ.l lim) (hk : 1 ≤ d) {x1 : Int} {w : TW} (rx1 : zr x1) (h : pT_readTerm_0 (wpT d) (fun w => Γ.Q (.inl none) w) x1 w) : ZV Γ w 0 [(0, ar (D.x + 1)), (1, ai x1)] [] := by
  refine zt_tok G (fun hw => ?_)
  refine zv_aload_n G rfl rfl dX1_readTerm_0 ?_
  refine zt_get (k := 3) (v := ai (tI w 3)) G (by decide) q2158 rfl dX1_readTerm_1 ?_
  refine zv_iconst (a := 1) G (by decide) dX1_readTerm_4 ?_
  refine zv_icmp_ne (tgt := 40) G (hw.i 3 (by decide)) (zr_k 1 (by decide) (by decide)) (by decide) dX1_readTerm_5 (fun c3 => ?_) (fun c3 => ?_)
  · have h := h.2 c3
    refine zv_aload_n G rfl rfl dX1_readTerm_40 ?_
    refine zt_get (k := 3) (v := ai (tI w 3)) G (by decide) q2158 rfl dX1_readTerm_41 ?_
    refine zv_iconst (a := 3) G (by decide) dX1_readTerm_44 ?_
    have kt15 : ((tI w 3) = 3) ∨ (¬ ((ff_isSign 45 w) = 0)) → ZV Γ w 57 [(0, ar (D.x + 1)), (1, ai x1)] [] := by
      intro c17
      have h := h.1 c17
      exact zv_pick [0, 1] rfl (cpT_readTerm_57 G M S hk rx1 h)
    have kf16 : ¬ (((tI w 3) = 3) ∨ (¬ ((ff_isSign 45 w) = 0))) → ZV Γ w 77 [(0, ar (D.x + 1)), (1, ai x1)] [] := by
      intro c17
      have h := h.2 c17
      refine zv_aload_n G rfl rfl dX1_readTerm_77 ?_
      refine zv_iconst (a := 2) G (by decide) dX1_readTerm_78 ?_
      refine zt_callV (as := [ai 2]) G M (S 12 _ rfl _ _ _ h (zoks_cons (zr_k 2 (by decide) (by decide)) zoks_nil)) q2612 q2614 qs73 q2615 md_stop rfl (by decide) (Nat.le_of_ble_eq_true rfl) dX1_readTerm_79 (fun u14 h => ?_)
      refine zt_tok G (fun hu14 => ?_)
      exact zv_pick [] rfl (cpT_readTerm_82 G M S hk h)
    refine zv_icmp_eq (tgt := 57) G (hw.i 3 (by decide)) (zr_k 3 (by decide) (by decide)) (by decide) dX1_readTerm_45 (fun c18 => ?_) (fun c18 => ?_)
    · exact kt15 (Or.inl c18)
    · refine zv_aload_n G rfl rfl dX1_readTerm_48 ?_
      refine zv_bipush (a := 45) G (by decide) dX1_readTerm_49 ?_
      refine zt_callI (as := [ai 45]) G M (S 18 _ rfl _ _ _ (fu_isSign (by omega)) (zoks_cons (zr_k 45 (by decide) (by decide)) zoks_nil)) q2636 q2638 qs79 q2639 md_isSign rfl (by decide) (Nat.le_of_ble_eq_true rfl) dX1_readTerm_51 (fun v6 u7 _ q => ?_)
      obtain ⟨ev6, eu7⟩ := q
      rw [eu7, ev6]
      refine zv_if_eq (tgt := 77) G (fr_isSign hw (zr_k 45 (by decide) (by decide))) (by decide) dX1_readTerm_54 (fun c19 => ?_) (fun c19 => ?_)
      · exact kf16 (fun q => q.elim c18 (fun q => q c19))
      · exact kt15 (Or.inr c19)
  · have h := h.1 c3
    refine zv_aload_n G rfl rfl dX1_readTerm_8 ?_
    refine zt_get (k := 50) (v := ar (D.ad 50 + 1)) G (by decide) q2205 rfl dX1_readTerm_9 ?_
    refine zv_iload_n G rfl rfl dX1_readTerm_12 ?_
    refine zv_iconst (a := 2) G (by decide) dX1_readTerm_13 ?_
    have o21 := h.1
    have h := h.2
    refine zt_iast (f := 50) G (by decide) rfl rx1 (zr_k 2 (by decide) (by decide)) o21.1 o21.2 dX1_readTerm_14 (fun u20 eu20 => ?_)
    have h := h u20 eu20
    refine zt_tok G (fun hu20 => ?_)
    refine zv_aload_n G rfl rfl dX1_readTerm_15 ?_
    refine zt_get (k := 51) (v := ar (D.ad 51 + 1)) G (by decide) q2206 rfl dX1_readTerm_16 ?_
    refine zv_iload_n G rfl rfl dX1_readTerm_19 ?_
    refine zv_aload_n G rfl rfl dX1_readTerm_20 ?_
    refine zv_iconst (a := 1) G (by decide) dX1_readTerm_21 ?_
    refine zt_callI (as := [ai 1]) G M (S 41 _ rfl _ _ _ h (zoks_cons (zr_k 1 (by decide) (by decide)) zoks_nil)) q2730 q2732 qs102 q2733 md_boundName rfl (by decide) (Nat.le_of_ble_eq_true rfl) dX1_readTerm_22 (fun v23 u22 rv23 h => ?_)
    refine zt_tok G (fun hu22 => ?_)
    have o25 := h.1
    have h := h.2
    refine zt_iast (f := 51) G (by decide) rfl rx1 rv23 o25.1 o25.2 dX1_readTerm_25 (fun u24 eu24 => ?_)
    have h := h u24 eu24
    refine zt_tok G (fun hu24 => ?_)
    refine zv_aload_n G rfl rfl dX1_readTerm_26 ?_
    refine zt_get (k := 7) (v := ai (tI u24 7)) G (by decide) q2162 rfl dX1_readTerm_27 ?_
    refine zv_if_ne (tgt := 82) G (hu24.i 7 (by decide)) (by decide) dX1_readTerm_30 (fun c26 => ?_) (fun c26 => ?_)
    · have h := h.2 c26
      exact zv_pick [] rfl (cpT_readTerm_82 G M S hk h)
    · have h := h.1 c26
      refine zv_aload_n G rfl rfl dX1_readTerm_33 ?_
      refine zt_callV (as := []) G M (S 4 _ rfl _ _ _ h zoks_nil) q2564 q2566 qs68 q2567 md_next rfl (by decide) (Nat.le_of_ble_eq_true rfl) dX1_readTerm_34 (fun u27 h => ?_)
      refine zt_tok G (fun hu27 => ?_)
      refine zv_goto (tgt := 82) G (by decide) dX1_readTerm_37 ?_
      exact zv_pick [] rfl (cpT_readTerm_82 G M S hk h)
set_option maxHeartbeats 4000000 in
set_option maxRecDepth 100000 in
theorem cpT_readSum_95 {Γ : ZG TW} {D : TD} {B0 d : Nat} {lim : Nat × Nat} (G : ZOk Γ cX1_readSum RX1 3 (KnT D B0) (ZT D B0)) (M : ZRm Γ (d + 1) lim none "readSum" []) (S : SdT d D B0 Γ.l lim) (hk : 1 ≤ d) {w : TW} (h : pT_readSum_95 (wpT d) (fun w => Γ.Q (.inl none) w) w) : ZV Γ w 95 [] [] := by
  refine zt_tok G (fun hw => ?_)
  exact zv_vret G M dX1_readSum_95 h
set_option maxHeartbeats 4000000 in
set_option maxRecDepth 100000 in
theorem cpT_readSum_73 {Γ : ZG TW} {D : TD} {B0 d : Nat} {lim : Nat × Nat} (G : ZOk Γ cX1_readSum RX1 3 (KnT D B0) (ZT D B0)) (M : ZRm Γ (d + 1) lim none "readSum" []) (S : SdT d D B0 Γ.l lim) (hk : 1 ≤ d) {x1 : Int} {x2 : Int} {w : TW} (rx1 : zr x1) (rx2 : zr x2) (h : pT_readSum_73 (wpT d) (fun w => Γ.Q (.inl none) w) x1 x2 w) : ZV Γ w 73 [(0, ar (D.x + 1)), (1, ai x1), (2, ai x2)] [] := by
  refine zt_tok G (fun hw => ?_)
  refine zv_aload_n G rfl rfl dX1_readSum_73 ?_
  refine zt_get (k := 52) (v := ar (D.ad 52 + 1)) G (by decide) q2207 rfl dX1_readSum_74 ?_
  refine zv_iload_n G rfl rfl dX1_readSum_77 ?_
  refine zv_aload_n G rfl rfl dX1_readSum_78 ?_
  refine zt_get (k := 4) (v := al (tI w 4)) G (by decide) q2159 rfl dX1_readSum_79 ?_
  refine zv_l2i G dX1_readSum_82 ?_
  have o27 := h.1
  have h := h.2
  refine zt_iast (f := 52) G (by decide) rfl rx2 (w32_r _) o27.1 o27.2 dX1_readSum_83 (fun u26 eu26 => ?_)
  have h := h u26 eu26
  refine zt_tok G (fun hu26 => ?_)
  refine zv_aload_n G rfl rfl dX1_readSum_84 ?_
  refine zt_callV (as := []) G M (S 4 _ rfl _ _ _ h zoks_nil) q2564 q2566 qs68 q2567 md_next rfl (by decide) (Nat.le_of_ble_eq_true rfl) dX1_readSum_85 (fun u28 h => ?_)
  refine zt_tok G (fun hu28 => ?_)
  refine zv_aload_n G rfl rfl dX1_readSum_88 ?_
  refine zv_iload_n G rfl rfl dX1_readSum_89 ?_
  refine zv_iconst (a := 1) G (by decide) dX1_readSum_90 ?_
  refine zv_iadd G dX1_readSum_91 ?_
  refine zt_callV (as := [ai (w32 (x1 + 1))]) G M (S 40 _ rfl _ _ _ h (zoks_cons (w32_r _) zoks_nil)) q2726 q2728 qs101 q2729 md_readTerm rfl (by decide) (Nat.le_of_ble_eq_true rfl) dX1_readSum_92 (fun u29 h => ?_)
  refine zt_tok G (fun hu29 => ?_)
  exact zv_pick [] rfl (cpT_readSum_95 G M S hk h)
set_option maxHeartbeats 4000000 in
set_option maxRecDepth 100000 in
theorem cpT_readSum_0 {Γ : ZG TW} {D : TD} {B0 d : Nat} {lim : Nat × Nat} (G : ZOk Γ cX1_readSum RX1 3 (KnT D B0) (ZT D B0)) (M : ZRm Γ (d + 1) lim none "readSum" []) (S : SdT d D B0 Γ.l lim) (hk : 1 ≤ d) {x1 : Int} {x2 : Int} {w : TW} (rx1 : zr x1) (rx2 : zr x2) (h : pT_readSum_0 (wpT d) (fun w => Γ.Q (.inl none) w) x1 x2 w) : ZV Γ w 0 [(0, ar (D.x + 1)), (1, ai x1), (2, ai x2)] [] := by
  refine zt_tok G (fun hw => ?_)
  refine zv_aload_n G rfl rfl dX1_readSum_0 ?_
  refine zv_iload_n G rfl rfl dX1_readSum_1 ?_
  refine zt_callV (as := [ai x1]) G M (S 40 _ rfl _ _ _ h (zoks_cons rx1 zoks_nil)) q2726 q2728 qs101 q2729 md_readTerm rfl (by decide) (Nat.le_of_ble_eq_true rfl) dX1_readSum_2 (fun u1 h => ?_)
  refine zt_tok G (fun hu1 => ?_)
  refine zv_aload_n G rfl rfl dX1_readSum_5 ?_
  refine zt_get (k := 50) (v := ar (D.ad 50 + 1)) G (by decide) q2205 rfl dX1_readSum_6 ?_
  refine zv_iload_n G rfl rfl dX1_readSum_9 ?_
  refine zv_iconst (a := 1) G (by decide) dX1_readSum_10 ?_
  refine zv_iadd G dX1_readSum_11 ?_
  refine zv_iconst (a := 0) G (by decide) dX1_readSum_12 ?_
  have o3 := h.1
  have h := h.2
  refine zt_iast (f := 50) G (by decide) rfl (w32_r _) (zr_k 0 (by decide) (by decide)) o3.1 o3.2 dX1_readSum_13 (fun u2 eu2 => ?_)
  have h := h u2 eu2
  refine zt_tok G (fun hu2 => ?_)
  refine zv_aload_n G rfl rfl dX1_readSum_14 ?_
  refine zt_get (k := 52) (v := ar (D.ad 52 + 1)) G (by decide) q2207 rfl dX1_readSum_15 ?_
  refine zv_iload_n G rfl rfl dX1_readSum_18 ?_
  refine zv_iconst (a := 0) G (by decide) dX1_readSum_19 ?_
  have o5 := h.1
  have h := h.2
  refine zt_iast (f := 52) G (by decide) rfl rx2 (zr_k 0 (by decide) (by decide)) o5.1 o5.2 dX1_readSum_20 (fun u4 eu4 => ?_)
  have h := h u4 eu4
  refine zt_tok G (fun hu4 => ?_)
  refine zv_aload_n G rfl rfl dX1_readSum_21 ?_
  refine zt_get (k := 7) (v := ai (tI u4 7)) G (by decide) q2162 rfl dX1_readSum_22 ?_
  have kt30 : ((tI u4 7) = 0) ∧ (¬ ((ff_isSign 43 u4) = 0) ∨ (¬ ((ff_isSign 45 u4) = 0) ∨ (¬ ((ff_isSign 42 u4) = 0) ∨ (¬ ((ff_isSign 47 u4) = 0) ∨ (¬ ((ff_isSign 37 u4) = 0)))))) → ZV Γ u4 73 [(0, ar (D.x + 1)), (1, ai x1), (2, ai x2)] [] := by
    intro c32
    have h := h.1 c32
    exact zv_pick [0, 1, 2] rfl (cpT_readSum_73 G M S hk rx1 rx2 h)
  have kf31 : ¬ (((tI u4 7) = 0) ∧ (¬ ((ff_isSign 43 u4) = 0) ∨ (¬ ((ff_isSign 45 u4) = 0) ∨ (¬ ((ff_isSign 42 u4) = 0) ∨ (¬ ((ff_isSign 47 u4) = 0) ∨ (¬ ((ff_isSign 37 u4) = 0))))))) → ZV Γ u4 95 [(0, ar (D.x + 1)), (1, ai x1), (2, ai x2)] [] := by
    intro c32
    have h := h.2 c32
    exact zv_pick [] rfl (cpT_readSum_95 G M S hk h)
  refine zv_if_ne (tgt := 95) G (hu4.i 7 (by decide)) (by decide) dX1_readSum_25 (fun c33 => ?_) (fun c33 => ?_)
  · exact kf31 (fun q => c33 q.1)
  · refine zv_aload_n G rfl rfl dX1_readSum_28 ?_
    refine zv_bipush (a := 43) G (by decide) dX1_readSum_29 ?_
    refine zt_callI (as := [ai 43]) G M (S 18 _ rfl _ _ _ (fu_isSign (by omega)) (zoks_cons (zr_k 43 (by decide) (by decide)) zoks_nil)) q2636 q2638 qs79 q2639 md_isSign rfl (by decide) (Nat.le_of_ble_eq_true rfl) dX1_readSum_31 (fun v8 u9 _ q => ?_)
    obtain ⟨ev8, eu9⟩ := q
    rw [eu9, ev8]
    refine zv_if_ne (tgt := 73) G (fr_isSign hu4 (zr_k 43 (by decide) (by decide))) (by decide) dX1_readSum_34 (fun c34 => ?_) (fun c34 => ?_)
    · exact kt30 ⟨c33, (Or.inl c34)⟩
    · refine zv_aload_n G rfl rfl dX1_readSum_37 ?_
      refine zv_bipush (a := 45) G (by decide) dX1_readSum_38 ?_
      refine zt_callI (as := [ai 45]) G M (S 18 _ rfl _ _ _ (fu_isSign (by omega)) (zoks_cons (zr_k 45 (by decide) (by decide)) zoks_nil)) q2636 q2638 qs79 q2639 md_isSign rfl (by decide) (Nat.le_of_ble_eq_true rfl) dX1_readSum_40 (fun v12 u13 _ q => ?_)
      obtain ⟨ev12, eu13⟩ := q
      rw [eu13, ev12]
      refine zv_if_ne (tgt := 73) G (fr_isSign hu4 (zr_k 45 (by decide) (by decide))) (by decide) dX1_readSum_43 (fun c35 => ?_) (fun c35 => ?_)
      · exact kt30 ⟨c33, (Or.inr (Or.inl c35))⟩
      · refine zv_aload_n G rfl rfl dX1_readSum_46 ?_
        refine zv_bipush (a := 42) G (by decide) dX1_readSum_47 ?_
        refine zt_callI (as := [ai 42]) G M (S 18 _ rfl _ _ _ (fu_isSign (by omega)) (zoks_cons (zr_k 42 (by decide) (by decide)) zoks_nil)) q2636 q2638 qs79 q2639 md_isSign rfl (by decide) (Nat.le_of_ble_eq_true rfl) dX1_readSum_49 (fun v16 u17 _ q => ?_)
        obtain ⟨ev16, eu17⟩ := q
        rw [eu17, ev16]
        refine zv_if_ne (tgt := 73) G (fr_isSign hu4 (zr_k 42 (by decide) (by decide))) (by decide) dX1_readSum_52 (fun c36 => ?_) (fun c36 => ?_)
        · exact kt30 ⟨c33, (Or.inr (Or.inr (Or.inl c36)))⟩
        · refine zv_aload_n G rfl rfl dX1_readSum_55 ?_
          refine zv_bipush (a := 47) G (by decide) dX1_readSum_56 ?_
          refine zt_callI (as := [ai 47]) G M (S 18 _ rfl _ _ _ (fu_isSign (by omega)) (zoks_cons (zr_k 47 (by decide) (by decide)) zoks_nil)) q2636 q2638 qs79 q2639 md_isSign rfl (by decide) (Nat.le_of_ble_eq_true rfl) dX1_readSum_58 (fun v20 u21 _ q => ?_)
          obtain ⟨ev20, eu21⟩ := q
          rw [eu21, ev20]
          refine zv_if_ne (tgt := 73) G (fr_isSign hu4 (zr_k 47 (by decide) (by decide))) (by decide) dX1_readSum_61 (fun c37 => ?_) (fun c37 => ?_)
          · exact kt30 ⟨c33, (Or.inr (Or.inr (Or.inr (Or.inl c37))))⟩
          · refine zv_aload_n G rfl rfl dX1_readSum_64 ?_
            refine zv_bipush (a := 37) G (by decide) dX1_readSum_65 ?_
            refine zt_callI (as := [ai 37]) G M (S 18 _ rfl _ _ _ (fu_isSign (by omega)) (zoks_cons (zr_k 37 (by decide) (by decide)) zoks_nil)) q2636 q2638 qs79 q2639 md_isSign rfl (by decide) (Nat.le_of_ble_eq_true rfl) dX1_readSum_67 (fun v24 u25 _ q => ?_)
            obtain ⟨ev24, eu25⟩ := q
            rw [eu25, ev24]
            refine zv_if_eq (tgt := 95) G (fr_isSign hu4 (zr_k 37 (by decide) (by decide))) (by decide) dX1_readSum_70 (fun c38 => ?_) (fun c38 => ?_)
            · exact kf31 (fun q => (fun q => q.elim (fun z => z c34) (fun q => q.elim (fun z => z c35) (fun q => q.elim (fun z => z c36) (fun q => q.elim (fun z => z c37) (fun q => q c38))))) q.2)
            · exact kt30 ⟨c33, (Or.inr (Or.inr (Or.inr (Or.inr c38))))⟩
set_option maxHeartbeats 4000000 in
set_option maxRecDepth 100000 in
theorem cpT_readGuard_25 {Γ : ZG TW} {D : TD} {B0 d : Nat} {lim : Nat × Nat} (G : ZOk Γ cX1_readGuard RX1 1 (KnT D B0) (ZT D B0)) (M : ZRm Γ (d + 1) lim none "readGuard" []) (S : SdT d D B0 Γ.l lim) (hk : 1 ≤ d) {w : TW} (h : pT_readGuard_25 (wpT d) (fun w => Γ.Q (.inl none) w) w) : ZV Γ w 25 [] [] := by
  refine zt_tok G (fun hw => ?_)
  exact zv_vret G M dX1_readGuard_25 h
set_option maxHeartbeats 4000000 in
set_option maxRecDepth 100000 in
theorem cpT_readGuard_87 {Γ : ZG TW} {D : TD} {B0 d : Nat} {lim : Nat × Nat} (G : ZOk Γ cX1_readGuard RX1 1 (KnT D B0) (ZT D B0)) (M : ZRm Γ (d + 1) lim none "readGuard" []) (S : SdT d D B0 Γ.l lim) (hk : 1 ≤ d) {w : TW} (h : pT_readGuard_87 (wpT d) (fun w => Γ.Q (.inl none) w) w) : ZV Γ w 87 [(0, ar (D.x + 1))] [] := by
  refine zt_tok G (fun hw => ?_)
  refine zv_aload_n G rfl rfl dX1_readGuard_87 ?_
  refine zt_get (k := 53) (v := ar (D.ad 53 + 1)) G (by decide) q2208 rfl dX1_readGuard_88 ?_
  refine zv_aload_n G rfl rfl dX1_readGuard_91 ?_
  refine zt_get (k := 27) (v := ai (tI w 27)) G (by decide) q2182 rfl dX1_readGuard_92 ?_
  refine zv_aload_n G rfl rfl dX1_readGuard_95 ?_
  refine zt_get (k := 4) (v := al (tI w 4)) G (by decide) q2159 rfl dX1_readGuard_96 ?_
  refine zv_l2i G dX1_readGuard_99 ?_
  have o28 := h.1
  have h := h.2
  refine zt_iast (f := 53) G (by decide) rfl (hw.i 27 (by decide)) (w32_r _) o28.1 o28.2 dX1_readGuard_100 (fun u27 eu27 => ?_)
  have h := h u27 eu27
  refine zt_tok G (fun hu27 => ?_)
  refine zv_aload_n G rfl rfl dX1_readGuard_101 ?_
  refine zt_callV (as := []) G M (S 4 _ rfl _ _ _ h zoks_nil) q2564 q2566 qs68 q2567 md_next rfl (by decide) (Nat.le_of_ble_eq_true rfl) dX1_readGuard_102 (fun u29 h => ?_)
  refine zt_tok G (fun hu29 => ?_)
  refine zv_aload_n G rfl rfl dX1_readGuard_105 ?_
  refine zv_iconst (a := 4) G (by decide) dX1_readGuard_106 ?_
  refine zv_aload_n G rfl rfl dX1_readGuard_107 ?_
  refine zt_get (k := 27) (v := ai (tI u29 27)) G (by decide) q2182 rfl dX1_readGuard_108 ?_
  refine zv_imul G dX1_readGuard_111 ?_
  refine zv_iconst (a := 2) G (by decide) dX1_readGuard_112 ?_
  refine zv_iadd G dX1_readGuard_113 ?_
  refine zv_iconst (a := 2) G (by decide) dX1_readGuard_114 ?_
  refine zv_aload_n G rfl rfl dX1_readGuard_115 ?_
  refine zt_get (k := 27) (v := ai (tI u29 27)) G (by decide) q2182 rfl dX1_readGuard_116 ?_
  refine zv_imul G dX1_readGuard_119 ?_
  refine zv_iconst (a := 1) G (by decide) dX1_readGuard_120 ?_
  refine zv_iadd G dX1_readGuard_121 ?_
  refine zt_callV (as := [ai (w32 ((w32 (4 * (tI u29 27))) + 2)), ai (w32 ((w32 (2 * (tI u29 27))) + 1))]) G M (S 39 _ rfl _ _ _ h (zoks_cons (w32_r _) (zoks_cons (w32_r _) zoks_nil))) q2722 q2724 qs100 q2725 md_readSum rfl (by decide) (Nat.le_of_ble_eq_true rfl) dX1_readGuard_122 (fun u30 h => ?_)
  refine zt_tok G (fun hu30 => ?_)
  exact zv_vret G M dX1_readGuard_125 h
set_option maxHeartbeats 4000000 in
set_option maxRecDepth 100000 in
theorem cpT_readGuard_0 {Γ : ZG TW} {D : TD} {B0 d : Nat} {lim : Nat × Nat} (G : ZOk Γ cX1_readGuard RX1 1 (KnT D B0) (ZT D B0)) (M : ZRm Γ (d + 1) lim none "readGuard" []) (S : SdT d D B0 Γ.l lim) (hk : 1 ≤ d) {w : TW} (h : pT_readGuard_0 (wpT d) (fun w => Γ.Q (.inl none) w) w) : ZV Γ w 0 [(0, ar (D.x + 1))] [] := by
  refine zt_tok G (fun hw => ?_)
  refine zv_aload_n G rfl rfl dX1_readGuard_0 ?_
  refine zt_get (k := 53) (v := ar (D.ad 53 + 1)) G (by decide) q2208 rfl dX1_readGuard_1 ?_
  refine zv_aload_n G rfl rfl dX1_readGuard_4 ?_
  refine zt_get (k := 27) (v := ai (tI w 27)) G (by decide) q2182 rfl dX1_readGuard_5 ?_
  refine zv_iconst (a := 0) G (by decide) dX1_readGuard_8 ?_
  have o2 := h.1
  have h := h.2
  refine zt_iast (f := 53) G (by decide) rfl (hw.i 27 (by decide)) (zr_k 0 (by decide) (by decide)) o2.1 o2.2 dX1_readGuard_9 (fun u1 eu1 => ?_)
  have h := h u1 eu1
  refine zt_tok G (fun hu1 => ?_)
  refine zv_aload_n G rfl rfl dX1_readGuard_10 ?_
  refine zt_get (k := 7) (v := ai (tI u1 7)) G (by decide) q2162 rfl dX1_readGuard_11 ?_
  have kt37 : ¬ ((tI u1 7) = 0) ∨ ((ff_isWord 3 u1) = 0) → ZV Γ u1 25 [(0, ar (D.x + 1))] [] := by
    intro c39
    have h := h.1 c39
    exact zv_pick [] rfl (cpT_readGuard_25 G M S hk h)
  have kf38 : ¬ (¬ ((tI u1 7) = 0) ∨ ((ff_isWord 3 u1) = 0)) → ZV Γ u1 26 [(0, ar (D.x + 1))] [] := by
    intro c39
    have h := h.2 c39
    refine zv_aload_n G rfl rfl dX1_readGuard_26 ?_
    refine zt_callV (as := []) G M (S 4 _ rfl _ _ _ h zoks_nil) q2564 q2566 qs68 q2567 md_next rfl (by decide) (Nat.le_of_ble_eq_true rfl) dX1_readGuard_27 (fun u7 h => ?_)
    refine zt_tok G (fun hu7 => ?_)
    refine zv_aload_n G rfl rfl dX1_readGuard_30 ?_
    refine zv_iconst (a := 4) G (by decide) dX1_readGuard_31 ?_
    refine zv_aload_n G rfl rfl dX1_readGuard_32 ?_
    refine zt_get (k := 27) (v := ai (tI u7 27)) G (by decide) q2182 rfl dX1_readGuard_33 ?_
    refine zv_imul G dX1_readGuard_36 ?_
    refine zv_iconst (a := 2) G (by decide) dX1_readGuard_37 ?_
    refine zv_aload_n G rfl rfl dX1_readGuard_38 ?_
    refine zt_get (k := 27) (v := ai (tI u7 27)) G (by decide) q2182 rfl dX1_readGuard_39 ?_
    refine zv_imul G dX1_readGuard_42 ?_
    refine zt_callV (as := [ai (w32 (4 * (tI u7 27))), ai (w32 (2 * (tI u7 27)))]) G M (S 39 _ rfl _ _ _ h (zoks_cons (w32_r _) (zoks_cons (w32_r _) zoks_nil))) q2722 q2724 qs100 q2725 md_readSum rfl (by decide) (Nat.le_of_ble_eq_true rfl) dX1_readGuard_43 (fun u8 h => ?_)
    refine zt_tok G (fun hu8 => ?_)
    refine zv_aload_n G rfl rfl dX1_readGuard_46 ?_
    refine zt_get (k := 7) (v := ai (tI u8 7)) G (by decide) q2162 rfl dX1_readGuard_47 ?_
    refine zv_if_eq (tgt := 54) G (hu8.i 7 (by decide)) (by decide) dX1_readGuard_50 (fun c15 => ?_) (fun c15 => ?_)
    · have h := h.1 c15
      refine zv_aload_n G rfl rfl dX1_readGuard_54 ?_
      refine zv_bipush (a := 60) G (by decide) dX1_readGuard_55 ?_
      refine zt_callI (as := [ai 60]) G M (S 18 _ rfl _ _ _ (fu_isSign (by omega)) (zoks_cons (zr_k 60 (by decide) (by decide)) zoks_nil)) q2636 q2638 qs79 q2639 md_isSign rfl (by decide) (Nat.le_of_ble_eq_true rfl) dX1_readGuard_57 (fun v16 u17 _ q => ?_)
      obtain ⟨ev16, eu17⟩ := q
      rw [eu17, ev16]
      have kt31 : ((ff_isSign 60 u8) = 0) ∧ (((ff_isSign 61 u8) = 0) ∧ ((ff_isSign 62 u8) = 0)) → ZV Γ u8 81 [(0, ar (D.x + 1))] [] := by
        intro c33
        have h := h.1 c33
        refine zv_aload_n G rfl rfl dX1_readGuard_81 ?_
        refine zv_iconst (a := 2) G (by decide) dX1_readGuard_82 ?_
        refine zt_callV (as := [ai 2]) G M (S 12 _ rfl _ _ _ h (zoks_cons (zr_k 2 (by decide) (by decide)) zoks_nil)) q2612 q2614 qs73 q2615 md_stop rfl (by decide) (Nat.le_of_ble_eq_true rfl) dX1_readGuard_83 (fun u26 h => ?_)
        refine zt_tok G (fun hu26 => ?_)
        exact zv_vret G M dX1_readGuard_86 h
      have kf32 : ¬ (((ff_isSign 60 u8) = 0) ∧ (((ff_isSign 61 u8) = 0) ∧ ((ff_isSign 62 u8) = 0))) → ZV Γ u8 87 [(0, ar (D.x + 1))] [] := by
        intro c33
        have h := h.2 c33
        exact zv_pick [0] rfl (cpT_readGuard_87 G M S hk h)
      refine zv_if_ne (tgt := 87) G (fr_isSign hu8 (zr_k 60 (by decide) (by decide))) (by decide) dX1_readGuard_60 (fun c34 => ?_) (fun c34 => ?_)
      · exact kf32 (fun q => c34 q.1)
      · refine zv_aload_n G rfl rfl dX1_readGuard_63 ?_
        refine zv_bipush (a := 61) G (by decide) dX1_readGuard_64 ?_
        refine zt_callI (as := [ai 61]) G M (S 18 _ rfl _ _ _ (fu_isSign (by omega)) (zoks_cons (zr_k 61 (by decide) (by decide)) zoks_nil)) q2636 q2638 qs79 q2639 md_isSign rfl (by decide) (Nat.le_of_ble_eq_true rfl) dX1_readGuard_66 (fun v20 u21 _ q => ?_)
        obtain ⟨ev20, eu21⟩ := q
        rw [eu21, ev20]
        refine zv_if_ne (tgt := 87) G (fr_isSign hu8 (zr_k 61 (by decide) (by decide))) (by decide) dX1_readGuard_69 (fun c35 => ?_) (fun c35 => ?_)
        · exact kf32 (fun q => (fun q => c35 q.1) q.2)
        · refine zv_aload_n G rfl rfl dX1_readGuard_72 ?_
          refine zv_bipush (a := 62) G (by decide) dX1_readGuard_73 ?_
          refine zt_callI (as := [ai 62]) G M (S 18 _ rfl _ _ _ (fu_isSign (by omega)) (zoks_cons (zr_k 62 (by decide) (by decide)) zoks_nil)) q2636 q2638 qs79 q2639 md_isSign rfl (by decide) (Nat.le_of_ble_eq_true rfl) dX1_readGuard_75 (fun v24 u25 _ q => ?_)
          obtain ⟨ev24, eu25⟩ := q
          rw [eu25, ev24]
          refine zv_if_ne (tgt := 87) G (fr_isSign hu8 (zr_k 62 (by decide) (by decide))) (by decide) dX1_readGuard_78 (fun c36 => ?_) (fun c36 => ?_)
          · exact kf32 (fun q => (fun q => c36 q.2) q.2)
          · exact kt31 ⟨c34, ⟨c35, c36⟩⟩
    · have h := h.2 c15
      exact zv_vret G M dX1_readGuard_53 h
  refine zv_if_ne (tgt := 25) G (hu1.i 7 (by decide)) (by decide) dX1_readGuard_14 (fun c40 => ?_) (fun c40 => ?_)
  · exact kt37 (Or.inl c40)
  · refine zv_aload_n G rfl rfl dX1_readGuard_17 ?_
    refine zv_iconst (a := 3) G (by decide) dX1_readGuard_18 ?_
    refine zt_callI (as := [ai 3]) G M (S 10 _ rfl _ _ _ (fu_isWord (by omega)) (zoks_cons (zr_k 3 (by decide) (by decide)) zoks_nil)) q2604 q2606 qs71 q2607 md_isWord rfl (by decide) (Nat.le_of_ble_eq_true rfl) dX1_readGuard_19 (fun v5 u6 _ q => ?_)
    obtain ⟨ev5, eu6⟩ := q
    rw [eu6, ev5]
    refine zv_if_ne (tgt := 26) G (fr_isWord hu1 (zr_k 3 (by decide) (by decide))) (by decide) dX1_readGuard_22 (fun c41 => ?_) (fun c41 => ?_)
    · exact kf38 (fun q => q.elim (fun z => z c40) c41)
    · exact kt37 (Or.inr c41)
set_option maxHeartbeats 4000000 in
set_option maxRecDepth 100000 in
theorem cpT_readAnswer_319 {Γ : ZG TW} {D : TD} {B0 d : Nat} {lim : Nat × Nat} (G : ZOk Γ cX1_readAnswer RX1 5 (KnT D B0) (ZT D B0)) (M : ZRm Γ (d + 1) lim none "readAnswer" []) (S : SdT d D B0 Γ.l lim) (hk : 1 ≤ d) {I202 : Int → TW → Prop} {w : TW} (hI202 : ∀ (x3 : Int) (w : TW), I202 x3 w → zr x3 → ZV Γ w 202 [(0, ar (D.x + 1)), (3, ai x3)] []) (h : pT_readAnswer_319 (wpT d) (fun w => Γ.Q (.inl none) w) I202 w) : ZV Γ w 319 [(0, ar (D.x + 1))] [] := by
  refine zt_tok G (fun hw => ?_)
  refine zv_aload_n G rfl rfl dX1_readAnswer_319 ?_
  refine zv_bipush (a := 44) G (by decide) dX1_readAnswer_320 ?_
  refine zt_callI (as := [ai 44]) G M (S 17 _ rfl _ _ _ h (zoks_cons (zr_k 44 (by decide) (by decide)) zoks_nil)) q2632 q2634 qs78 q2635 md_takes rfl (by decide) (Nat.le_of_ble_eq_true rfl) dX1_readAnswer_322 (fun v28 u27 rv28 h => ?_)
  refine zt_tok G (fun hu27 => ?_)
  refine zv_istore_n G rfl (by decide) rfl dX1_readAnswer_325 ?_
  refine zv_goto (tgt := 202) G (by decide) dX1_readAnswer_326 ?_
  exact zv_pick [0, 3] rfl (hI202 _ _ h rv28)
set_option maxHeartbeats 4000000 in
set_option maxRecDepth 100000 in
theorem cpT_readAnswer_295 {Γ : ZG TW} {D : TD} {B0 d : Nat} {lim : Nat × Nat} (G : ZOk Γ cX1_readAnswer RX1 5 (KnT D B0) (ZT D B0)) (M : ZRm Γ (d + 1) lim none "readAnswer" []) (S : SdT d D B0 Γ.l lim) (hk : 1 ≤ d) {I202 : Int → TW → Prop} {w : TW} (hI202 : ∀ (x3 : Int) (w : TW), I202 x3 w → zr x3 → ZV Γ w 202 [(0, ar (D.x + 1)), (3, ai x3)] []) (h : pT_readAnswer_295 (wpT d) (fun w => Γ.Q (.inl none) w) I202 w) : ZV Γ w 295 [(0, ar (D.x + 1))] [] := by
  refine zt_tok G (fun hw => ?_)
  refine zv_aload_n G rfl rfl dX1_readAnswer_295 ?_
  refine zt_get (k := 58) (v := ar (D.ad 58 + 1)) G (by decide) q2213 rfl dX1_readAnswer_296 ?_
  refine zv_aload_n G rfl rfl dX1_readAnswer_299 ?_
  refine zt_get (k := 27) (v := ai (tI w 27)) G (by decide) q2182 rfl dX1_readAnswer_300 ?_
  refine zv_dup2_11 G rfl rfl dX1_readAnswer_303 ?_
  have o23 := h.1
  have h := h.2
  refine zt_iald (f := 58) G (by decide) rfl (hw.i 27 (by decide)) o23.1 o23.2 dX1_readAnswer_304 ?_
  refine zv_iconst (a := 1) G (by decide) dX1_readAnswer_305 ?_
  refine zv_iadd G dX1_readAnswer_306 ?_
  have o25 := h.1
  have h := h.2
  refine zt_iast (f := 58) G (by decide) rfl (hw.i 27 (by decide)) (w32_r _) o25.1 o25.2 dX1_readAnswer_307 (fun u24 eu24 => ?_)
  have h := h u24 eu24
  refine zt_tok G (fun hu24 => ?_)
  refine zv_aload_n G rfl rfl dX1_readAnswer_308 ?_
  refine zt_get (k := 7) (v := ai (tI u24 7)) G (by decide) q2162 rfl dX1_readAnswer_309 ?_
  refine zv_if_ne (tgt := 319) G (hu24.i 7 (by decide)) (by decide) dX1_readAnswer_312 (fun c26 => ?_) (fun c26 => ?_)
  · have h := h.2 c26
    exact zv_pick [0] rfl (cpT_readAnswer_319 G M S hk hI202 h)
  · have h := h.1 c26
    refine zv_aload_n G rfl rfl dX1_readAnswer_315 ?_
    refine zt_callV (as := []) G M (S 4 _ rfl _ _ _ h zoks_nil) q2564 q2566 qs68 q2567 md_next rfl (by decide) (Nat.le_of_ble_eq_true rfl) dX1_readAnswer_316 (fun u29 h => ?_)
    refine zt_tok G (fun hu29 => ?_)
    exact zv_pick [0] rfl (cpT_readAnswer_319 G M S hk hI202 h)
set_option maxHeartbeats 4000000 in
set_option maxRecDepth 100000 in
theorem cpT_readAnswer_221 {Γ : ZG TW} {D : TD} {B0 d : Nat} {lim : Nat × Nat} (G : ZOk Γ cX1_readAnswer RX1 5 (KnT D B0) (ZT D B0)) (M : ZRm Γ (d + 1) lim none "readAnswer" []) (S : SdT d D B0 Γ.l lim) (hk : 1 ≤ d) {w : TW} (h : pT_readAnswer_221 (wpT d) (fun w => Γ.Q (.inl none) w) w) : ZV Γ w 221 [(0, ar (D.x + 1))] [] := by
  refine zt_tok G (fun hw => ?_)
  refine zv_aload_n G rfl rfl dX1_readAnswer_221 ?_
  refine zv_iconst (a := 2) G (by decide) dX1_readAnswer_222 ?_
  refine zt_callV (as := [ai 2]) G M (S 12 _ rfl _ _ _ h (zoks_cons (zr_k 2 (by decide) (by decide)) zoks_nil)) q2612 q2614 qs73 q2615 md_stop rfl (by decide) (Nat.le_of_ble_eq_true rfl) dX1_readAnswer_223 (fun u36 h => ?_)
  refine zt_tok G (fun hu36 => ?_)
  exact zv_vret G M dX1_readAnswer_226 h
set_option maxHeartbeats 4000000 in
set_option maxRecDepth 100000 in
theorem cpT_readAnswer_329 {Γ : ZG TW} {D : TD} {B0 d : Nat} {lim : Nat × Nat} (G : ZOk Γ cX1_readAnswer RX1 5 (KnT D B0) (ZT D B0)) (M : ZRm Γ (d + 1) lim none "readAnswer" []) (S : SdT d D B0 Γ.l lim) (hk : 1 ≤ d) {w : TW} (h : pT_readAnswer_329 (wpT d) (fun w => Γ.Q (.inl none) w) w) : ZV Γ w 329 [(0, ar (D.x + 1))] [] := by
  refine zt_tok G (fun hw => ?_)
  refine zv_aload_n G rfl rfl dX1_readAnswer_329 ?_
  refine zv_bipush (a := 41) G (by decide) dX1_readAnswer_330 ?_
  refine zt_callV (as := [ai 41]) G M (S 20 _ rfl _ _ _ h (zoks_cons (zr_k 41 (by decide) (by decide)) zoks_nil)) q2646 q2648 qs81 q2649 md_must rfl (by decide) (Nat.le_of_ble_eq_true rfl) dX1_readAnswer_332 (fun u37 h => ?_)
  refine zt_tok G (fun hu37 => ?_)
  exact zv_vret G M dX1_readAnswer_335 h
set_option maxHeartbeats 4000000 in
set_option maxRecDepth 100000 in
theorem cpT_readAnswer_202 {Γ : ZG TW} {D : TD} {B0 d : Nat} {lim : Nat × Nat} (G : ZOk Γ cX1_readAnswer RX1 5 (KnT D B0) (ZT D B0)) (M : ZRm Γ (d + 1) lim none "readAnswer" []) (S : SdT d D B0 Γ.l lim) (hk : 1 ≤ d) {x3 : Int} {w : TW} (rx3 : zr x3) (h : pT_readAnswer_202 (wpT d) (fun w => Γ.Q (.inl none) w) x3 w) : ZV Γ w 202 [(0, ar (D.x + 1)), (3, ai x3)] [] := by
  refine h (fun x3 w => zr x3 → ZV Γ w 202 [(0, ar (D.x + 1)), (3, ai x3)] []) ?_ rx3
  clear h
  intro x3 w h rx3
  have hI202 : ∀ (x3 : Int) (w : TW), (fun x3 w => zr x3 → ZV Γ w 202 [(0, ar (D.x + 1)), (3, ai x3)] []) x3 w → zr x3 → ZV Γ w 202 [(0, ar (D.x + 1)), (3, ai x3)] [] := fun _ _ z => z
  refine zt_tok G (fun hw => ?_)
  refine zv_iload_n G rfl rfl dX1_readAnswer_202 ?_
  have kt38 : ¬ (x3 = 0) ∧ ((tI w 7) = 0) → ZV Γ w 213 [(0, ar (D.x + 1)), (3, ai x3)] [] := by
    intro c40
    have h := h.1 c40
    refine zv_aload_n G rfl rfl dX1_readAnswer_213 ?_
    refine zt_get (k := 3) (v := ai (tI w 3)) G (by decide) q2158 rfl dX1_readAnswer_214 ?_
    refine zv_iconst (a := 1) G (by decide) dX1_readAnswer_217 ?_
    refine zv_icmp_eq (tgt := 227) G (hw.i 3 (by decide)) (zr_k 1 (by decide) (by decide)) (by decide) dX1_readAnswer_218 (fun c18 => ?_) (fun c18 => ?_)
    · have h := h.1 c18
      refine zv_aload_n G rfl rfl dX1_readAnswer_227 ?_
      refine zv_iconst (a := 0) G (by decide) dX1_readAnswer_228 ?_
      refine zt_callI (as := [ai 0]) G M (S 41 _ rfl _ _ _ h (zoks_cons (zr_k 0 (by decide) (by decide)) zoks_nil)) q2730 q2732 qs102 q2733 md_boundName rfl (by decide) (Nat.le_of_ble_eq_true rfl) dX1_readAnswer_229 (fun v20 u19 rv20 h => ?_)
      refine zt_tok G (fun hu19 => ?_)
      refine zv_istore G (by decide) rfl dX1_readAnswer_232 ?_
      refine zv_aload_n G rfl rfl dX1_readAnswer_234 ?_
      refine zt_get (k := 58) (v := ar (D.ad 58 + 1)) G (by decide) q2213 rfl dX1_readAnswer_235 ?_
      refine zv_aload_n G rfl rfl dX1_readAnswer_238 ?_
      refine zt_get (k := 27) (v := ai (tI u19 27)) G (by decide) q2182 rfl dX1_readAnswer_239 ?_
      have o21 := h.1
      have h := h.2
      refine zt_iald (f := 58) G (by decide) rfl (hu19.i 27 (by decide)) o21.1 o21.2 dX1_readAnswer_242 ?_
      refine zv_iconst (a := 3) G (by decide) dX1_readAnswer_243 ?_
      refine zv_icmp_ge (tgt := 295) G (hu19.a 58 _ (by decide)) (zr_k 3 (by decide) (by decide)) (by decide) dX1_readAnswer_244 (fun c22 => ?_) (fun c22 => ?_)
      · have h := h.1 c22
        exact zv_pick [0] rfl (cpT_readAnswer_295 G M S hk hI202 h)
      · have h := h.2 c22
        refine zv_aload_n G rfl rfl dX1_readAnswer_247 ?_
        refine zt_get (k := 59) (v := ar (D.ad 59 + 1)) G (by decide) q2214 rfl dX1_readAnswer_248 ?_
        refine zv_iconst (a := 3) G (by decide) dX1_readAnswer_251 ?_
        refine zv_aload_n G rfl rfl dX1_readAnswer_252 ?_
        refine zt_get (k := 27) (v := ai (tI u19 27)) G (by decide) q2182 rfl dX1_readAnswer_253 ?_
        refine zv_imul G dX1_readAnswer_256 ?_
        refine zv_aload_n G rfl rfl dX1_readAnswer_257 ?_
        refine zt_get (k := 58) (v := ar (D.ad 58 + 1)) G (by decide) q2213 rfl dX1_readAnswer_258 ?_
        refine zv_aload_n G rfl rfl dX1_readAnswer_261 ?_
        refine zt_get (k := 27) (v := ai (tI u19 27)) G (by decide) q2182 rfl dX1_readAnswer_262 ?_
        have o30 := h.1
        have h := h.2
        refine zt_iald (f := 58) G (by decide) rfl (hu19.i 27 (by decide)) o30.1 o30.2 dX1_readAnswer_265 ?_
        refine zv_iadd G dX1_readAnswer_266 ?_
        refine zv_iload G rfl dX1_readAnswer_267 ?_
        have o32 := h.1
        have h := h.2
        refine zt_iast (f := 59) G (by decide) rfl (w32_r _) rv20 o32.1 o32.2 dX1_readAnswer_269 (fun u31 eu31 => ?_)
        have h := h u31 eu31
        refine zt_tok G (fun hu31 => ?_)
        refine zv_aload_n G rfl rfl dX1_readAnswer_270 ?_
        refine zt_get (k := 60) (v := ar (D.ad 60 + 1)) G (by decide) q2215 rfl dX1_readAnswer_271 ?_
        refine zv_iconst (a := 3) G (by decide) dX1_readAnswer_274 ?_
        refine zv_aload_n G rfl rfl dX1_readAnswer_275 ?_
        refine zt_get (k := 27) (v := ai (tI u31 27)) G (by decide) q2182 rfl dX1_readAnswer_276 ?_
        refine zv_imul G dX1_readAnswer_279 ?_
        refine zv_aload_n G rfl rfl dX1_readAnswer_280 ?_
        refine zt_get (k := 58) (v := ar (D.ad 58 + 1)) G (by decide) q2213 rfl dX1_readAnswer_281 ?_
        refine zv_aload_n G rfl rfl dX1_readAnswer_284 ?_
        refine zt_get (k := 27) (v := ai (tI u31 27)) G (by decide) q2182 rfl dX1_readAnswer_285 ?_
        have o33 := h.1
        have h := h.2
        refine zt_iald (f := 58) G (by decide) rfl (hu31.i 27 (by decide)) o33.1 o33.2 dX1_readAnswer_288 ?_
        refine zv_iadd G dX1_readAnswer_289 ?_
        refine zv_aload_n G rfl rfl dX1_readAnswer_290 ?_
        refine zt_get (k := 5) (v := ai (tI u31 5)) G (by decide) q2160 rfl dX1_readAnswer_291 ?_
        have o35 := h.1
        have h := h.2
        refine zt_iast (f := 60) G (by decide) rfl (w32_r _) (hu31.i 5 (by decide)) o35.1 o35.2 dX1_readAnswer_294 (fun u34 eu34 => ?_)
        have h := h u34 eu34
        refine zt_tok G (fun hu34 => ?_)
        exact zv_pick [0] rfl (cpT_readAnswer_295 G M S hk hI202 h)
    · have h := h.2 c18
      exact zv_pick [0] rfl (cpT_readAnswer_221 G M S hk h)
  have kf39 : ¬ (¬ (x3 = 0) ∧ ((tI w 7) = 0)) → ZV Γ w 329 [(0, ar (D.x + 1)), (3, ai x3)] [] := by
    intro c40
    have h := h.2 c40
    exact zv_pick [0] rfl (cpT_readAnswer_329 G M S hk h)
  refine zv_if_eq (tgt := 329) G rx3 (by decide) dX1_readAnswer_203 (fun c41 => ?_) (fun c41 => ?_)
  · exact kf39 (fun q => q.1 c41)
  · refine zv_aload_n G rfl rfl dX1_readAnswer_206 ?_
    refine zt_get (k := 7) (v := ai (tI w 7)) G (by decide) q2162 rfl dX1_readAnswer_207 ?_
    refine zv_if_ne (tgt := 329) G (hw.i 7 (by decide)) (by decide) dX1_readAnswer_210 (fun c42 => ?_) (fun c42 => ?_)
    · exact kf39 (fun q => c42 q.2)
    · exact kt38 ⟨c41, c42⟩
set_option maxHeartbeats 4000000 in
set_option maxRecDepth 100000 in
theorem cpT_readAnswer_185 {Γ : ZG TW} {D : TD} {B0 d : Nat} {lim : Nat × Nat} (G : ZOk Γ cX1_readAnswer RX1 5 (KnT D B0) (ZT D B0)) (M : ZRm Γ (d + 1) lim none "readAnswer" []) (S : SdT d D B0 Γ.l lim) (hk : 1 ≤ d) {w : TW} (h : pT_readAnswer_185 (wpT d) (fun w => Γ.Q (.inl none) w) w) : ZV Γ w 185 [] [] := by
  refine zt_tok G (fun hw => ?_)
  exact zv_vret G M dX1_readAnswer_185 h
set_option maxHeartbeats 4000000 in
set_option maxRecDepth 100000 in
theorem cpT_readAnswer_153 {Γ : ZG TW} {D : TD} {B0 d : Nat} {lim : Nat × Nat} (G : ZOk Γ cX1_readAnswer RX1 5 (KnT D B0) (ZT D B0)) (M : ZRm Γ (d + 1) lim none "readAnswer" []) (S : SdT d D B0 Γ.l lim) (hk : 1 ≤ d) {x2 : Int} {w : TW} (rx2 : zr x2) (h : pT_readAnswer_153 (wpT d) (fun w => Γ.Q (.inl none) w) x2 w) : ZV Γ w 153 [(0, ar (D.x + 1)), (2, ai x2)] [] := by
  refine zt_tok G (fun hw => ?_)
  refine zv_aload_n G rfl rfl dX1_readAnswer_153 ?_
  refine zv_iconst (a := 4) G (by decide) dX1_readAnswer_154 ?_
  refine zv_iload_n G rfl rfl dX1_readAnswer_155 ?_
  refine zt_callV (as := [ai 4, ai x2]) G M (S 13 _ rfl _ _ _ h (zoks_cons (zr_k 4 (by decide) (by decide)) (zoks_cons rx2 zoks_nil))) q2616 q2618 qs74 q2619 md_fails rfl (by decide) (Nat.le_of_ble_eq_true rfl) dX1_readAnswer_156 (fun u47 h => ?_)
  refine zt_tok G (fun hu47 => ?_)
  refine zv_goto (tgt := 185) G (by decide) dX1_readAnswer_159 ?_
  exact zv_pick [] rfl (cpT_readAnswer_185 G M S hk h)
set_option maxHeartbeats 4000000 in
set_option maxRecDepth 100000 in
theorem cpT_readAnswer_64 {Γ : ZG TW} {D : TD} {B0 d : Nat} {lim : Nat × Nat} (G : ZOk Γ cX1_readAnswer RX1 5 (KnT D B0) (ZT D B0)) (M : ZRm Γ (d + 1) lim none "readAnswer" []) (S : SdT d D B0 Γ.l lim) (hk : 1 ≤ d) {w : TW} (h : pT_readAnswer_64 (wpT d) (fun w => Γ.Q (.inl none) w) w) : ZV Γ w 64 [(0, ar (D.x + 1))] [] := by
  refine zt_tok G (fun hw => ?_)
  refine zv_aload_n G rfl rfl dX1_readAnswer_64 ?_
  refine zt_get (k := 55) (v := ar (D.ad 55 + 1)) G (by decide) q2210 rfl dX1_readAnswer_65 ?_
  refine zv_aload_n G rfl rfl dX1_readAnswer_68 ?_
  refine zt_get (k := 27) (v := ai (tI w 27)) G (by decide) q2182 rfl dX1_readAnswer_69 ?_
  refine zv_aload_n G rfl rfl dX1_readAnswer_72 ?_
  refine zt_callI (as := []) G M (S 31 _ rfl _ _ _ h zoks_nil) q2690 q2692 qs92 q2693 md_number rfl (by decide) (Nat.le_of_ble_eq_true rfl) dX1_readAnswer_73 (fun v64 u63 rv64 h => ?_)
  refine zt_tok G (fun hu63 => ?_)
  have o66 := h.1
  have h := h.2
  refine zt_iast (f := 55) G (by decide) rfl (hw.i 27 (by decide)) rv64 o66.1 o66.2 dX1_readAnswer_76 (fun u65 eu65 => ?_)
  have h := h u65 eu65
  refine zt_tok G (fun hu65 => ?_)
  exact zv_vret G M dX1_readAnswer_77 h
set_option maxHeartbeats 4000000 in
set_option maxRecDepth 100000 in
theorem cpT_readAnswer_0 {Γ : ZG TW} {D : TD} {B0 d : Nat} {lim : Nat × Nat} (G : ZOk Γ cX1_readAnswer RX1 5 (KnT D B0) (ZT D B0)) (M : ZRm Γ (d + 1) lim none "readAnswer" []) (S : SdT d D B0 Γ.l lim) (hk : 1 ≤ d) {w : TW} (h : pT_readAnswer_0 (wpT d) (fun w => Γ.Q (.inl none) w) w) : ZV Γ w 0 [(0, ar (D.x + 1))] [] := by
  refine zt_tok G (fun hw => ?_)
  refine zv_aload_n G rfl rfl dX1_readAnswer_0 ?_
  refine zt_get (k := 57) (v := ar (D.ad 57 + 1)) G (by decide) q2212 rfl dX1_readAnswer_1 ?_
  refine zv_aload_n G rfl rfl dX1_readAnswer_4 ?_
  refine zt_get (k := 27) (v := ai (tI w 27)) G (by decide) q2182 rfl dX1_readAnswer_5 ?_
  refine zv_aload_n G rfl rfl dX1_readAnswer_8 ?_
  refine zt_get (k := 5) (v := ai (tI w 5)) G (by decide) q2160 rfl dX1_readAnswer_9 ?_
  have o2 := h.1
  have h := h.2
  refine zt_iast (f := 57) G (by decide) rfl (hw.i 27 (by decide)) (hw.i 5 (by decide)) o2.1 o2.2 dX1_readAnswer_12 (fun u1 eu1 => ?_)
  have h := h u1 eu1
  refine zt_tok G (fun hu1 => ?_)
  refine zv_aload_n G rfl rfl dX1_readAnswer_13 ?_
  refine zt_get (k := 58) (v := ar (D.ad 58 + 1)) G (by decide) q2213 rfl dX1_readAnswer_14 ?_
  refine zv_aload_n G rfl rfl dX1_readAnswer_17 ?_
  refine zt_get (k := 27) (v := ai (tI u1 27)) G (by decide) q2182 rfl dX1_readAnswer_18 ?_
  refine zv_iconst (a := 0) G (by decide) dX1_readAnswer_21 ?_
  have o4 := h.1
  have h := h.2
  refine zt_iast (f := 58) G (by decide) rfl (hu1.i 27 (by decide)) (zr_k 0 (by decide) (by decide)) o4.1 o4.2 dX1_readAnswer_22 (fun u3 eu3 => ?_)
  have h := h u3 eu3
  refine zt_tok G (fun hu3 => ?_)
  refine zv_aload_n G rfl rfl dX1_readAnswer_23 ?_
  refine zt_get (k := 3) (v := ai (tI u3 3)) G (by decide) q2158 rfl dX1_readAnswer_24 ?_
  refine zv_iconst (a := 1) G (by decide) dX1_readAnswer_27 ?_
  refine zv_icmp_eq (tgt := 78) G (hu3.i 3 (by decide)) (zr_k 1 (by decide) (by decide)) (by decide) dX1_readAnswer_28 (fun c5 => ?_) (fun c5 => ?_)
  · have h := h.1 c5
    refine zv_aload_n G rfl rfl dX1_readAnswer_78 ?_
    refine zt_get (k := 56) (v := ar (D.ad 56 + 1)) G (by decide) q2211 rfl dX1_readAnswer_79 ?_
    refine zv_aload_n G rfl rfl dX1_readAnswer_82 ?_
    refine zt_get (k := 27) (v := ai (tI u3 27)) G (by decide) q2182 rfl dX1_readAnswer_83 ?_
    refine zv_aload_n G rfl rfl dX1_readAnswer_86 ?_
    refine zt_get (k := 4) (v := al (tI u3 4)) G (by decide) q2159 rfl dX1_readAnswer_87 ?_
    have o7 := h.1
    have h := h.2
    refine zt_last (f := 56) G (by decide) rfl (hu3.i 27 (by decide)) (hu3.l 4 (by decide)) o7.1 o7.2 dX1_readAnswer_90 (fun u6 eu6 => ?_)
    have h := h u6 eu6
    refine zt_tok G (fun hu6 => ?_)
    refine zv_aload_n G rfl rfl dX1_readAnswer_91 ?_
    refine zv_aload_n G rfl rfl dX1_readAnswer_92 ?_
    refine zt_get (k := 4) (v := al (tI u6 4)) G (by decide) q2159 rfl dX1_readAnswer_93 ?_
    refine zt_callI (as := [al (tI u6 4)]) G M (S 28 _ rfl _ _ _ h (zoks_cons (hu6.l 4 (by decide)) zoks_nil)) q2678 q2680 qs89 q2681 md_nameOf rfl (by decide) (Nat.le_of_ble_eq_true rfl) dX1_readAnswer_96 (fun v9 u8 rv9 h => ?_)
    refine zt_tok G (fun hu8 => ?_)
    refine zv_istore_n G rfl (by decide) rfl dX1_readAnswer_99 ?_
    refine zv_aload_n G rfl rfl dX1_readAnswer_100 ?_
    refine zt_get (k := 5) (v := ai (tI u8 5)) G (by decide) q2160 rfl dX1_readAnswer_101 ?_
    refine zv_istore_nN G rfl (by decide) dX1_readAnswer_104 (fun x2_10 ex2_10 => ?_)
    have h := h x2_10 ex2_10
    have rx2_10 : zr x2_10 := by rw [ex2_10]; exact (hu8.i 5 (by decide))
    refine zv_aload_n G rfl rfl dX1_readAnswer_105 ?_
    refine zt_callV (as := []) G M (S 4 _ rfl _ _ _ h zoks_nil) q2564 q2566 qs68 q2567 md_next rfl (by decide) (Nat.le_of_ble_eq_true rfl) dX1_readAnswer_106 (fun u11 h => ?_)
    refine zt_tok G (fun hu11 => ?_)
    refine zv_aload_n G rfl rfl dX1_readAnswer_109 ?_
    refine zv_bipush (a := 40) G (by decide) dX1_readAnswer_110 ?_
    refine zt_callI (as := [ai 40]) G M (S 18 _ rfl _ _ _ (fu_isSign (by omega)) (zoks_cons (zr_k 40 (by decide) (by decide)) zoks_nil)) q2636 q2638 qs79 q2639 md_isSign rfl (by decide) (Nat.le_of_ble_eq_true rfl) dX1_readAnswer_112 (fun v12 u13 _ q => ?_)
    obtain ⟨ev12, eu13⟩ := q
    rw [eu13, ev12]
    refine zv_if_ne (tgt := 186) G (fr_isSign hu11 (zr_k 40 (by decide) (by decide))) (by decide) dX1_readAnswer_115 (fun c14 => ?_) (fun c14 => ?_)
    · have h := h.2 c14
      refine zv_aload_n G rfl rfl dX1_readAnswer_186 ?_
      refine zt_get (k := 54) (v := ar (D.ad 54 + 1)) G (by decide) q2209 rfl dX1_readAnswer_187 ?_
      refine zv_aload_n G rfl rfl dX1_readAnswer_190 ?_
      refine zt_get (k := 27) (v := ai (tI u11 27)) G (by decide) q2182 rfl dX1_readAnswer_191 ?_
      refine zv_iconst (a := 2) G (by decide) dX1_readAnswer_194 ?_
      have o16 := h.1
      have h := h.2
      refine zt_iast (f := 54) G (by decide) rfl (hu11.i 27 (by decide)) (zr_k 2 (by decide) (by decide)) o16.1 o16.2 dX1_readAnswer_195 (fun u15 eu15 => ?_)
      have h := h u15 eu15
      refine zt_tok G (fun hu15 => ?_)
      refine zv_aload_n G rfl rfl dX1_readAnswer_196 ?_
      refine zt_callV (as := []) G M (S 4 _ rfl _ _ _ h zoks_nil) q2564 q2566 qs68 q2567 md_next rfl (by decide) (Nat.le_of_ble_eq_true rfl) dX1_readAnswer_197 (fun u17 h => ?_)
      refine zt_tok G (fun hu17 => ?_)
      refine zv_iconst (a := 1) G (by decide) dX1_readAnswer_200 ?_
      refine zv_istore_n G rfl (by decide) rfl dX1_readAnswer_201 ?_
      exact zv_pick [0, 3] rfl (cpT_readAnswer_202 G M S hk (zr_k 1 (by decide) (by decide)) h)
    · have h := h.1 c14
      refine zv_aload_n G rfl rfl dX1_readAnswer_118 ?_
      refine zt_get (k := 54) (v := ar (D.ad 54 + 1)) G (by decide) q2209 rfl dX1_readAnswer_119 ?_
      refine zv_aload_n G rfl rfl dX1_readAnswer_122 ?_
      refine zt_get (k := 27) (v := ai (tI u11 27)) G (by decide) q2182 rfl dX1_readAnswer_123 ?_
      refine zv_iconst (a := 1) G (by decide) dX1_readAnswer_126 ?_
      have o44 := h.1
      have h := h.2
      refine zt_iast (f := 54) G (by decide) rfl (hu11.i 27 (by decide)) (zr_k 1 (by decide) (by decide)) o44.1 o44.2 dX1_readAnswer_127 (fun u43 eu43 => ?_)
      have h := h u43 eu43
      refine zt_tok G (fun hu43 => ?_)
      refine zv_aload_n G rfl rfl dX1_readAnswer_128 ?_
      refine zt_get (k := 55) (v := ar (D.ad 55 + 1)) G (by decide) q2210 rfl dX1_readAnswer_129 ?_
      refine zv_aload_n G rfl rfl dX1_readAnswer_132 ?_
      refine zt_get (k := 27) (v := ai (tI u43 27)) G (by decide) q2182 rfl dX1_readAnswer_133 ?_
      refine zv_iload_n G rfl rfl dX1_readAnswer_136 ?_
      have o46 := h.1
      have h := h.2
      refine zt_iast (f := 55) G (by decide) rfl (hu43.i 27 (by decide)) rv9 o46.1 o46.2 dX1_readAnswer_137 (fun u45 eu45 => ?_)
      have h := h u45 eu45
      refine zt_tok G (fun hu45 => ?_)
      refine zv_iload_n G rfl rfl dX1_readAnswer_138 ?_
      have kt51 : (v9 < 0) ∨ ((i_and (i_shr (tI u45 31) v9) 1) = 0) → ZV Γ u45 153 [(2, ai x2_10), (1, ai v9), (0, ar (D.x + 1))] [] := by
        intro c53
        have h := h.1 c53
        exact zv_pick [0, 2] rfl (cpT_readAnswer_153 G M S hk rx2_10 h)
      have kf52 : ¬ ((v9 < 0) ∨ ((i_and (i_shr (tI u45 31) v9) 1) = 0)) → ZV Γ u45 162 [(2, ai x2_10), (1, ai v9), (0, ar (D.x + 1))] [] := by
        intro c53
        have h := h.2 c53
        refine zv_aload_n G rfl rfl dX1_readAnswer_162 ?_
        refine zt_get (k := 30) (v := ar (D.ad 30 + 1)) G (by decide) q2185 rfl dX1_readAnswer_163 ?_
        refine zv_bipush (a := 8) G (by decide) dX1_readAnswer_166 ?_
        refine zv_aload_n G rfl rfl dX1_readAnswer_168 ?_
        refine zt_get (k := 27) (v := ai (tI u45 27)) G (by decide) q2182 rfl dX1_readAnswer_169 ?_
        refine zv_imul G dX1_readAnswer_172 ?_
        refine zv_iload_n G rfl rfl dX1_readAnswer_173 ?_
        refine zv_iadd G dX1_readAnswer_174 ?_
        have o48 := h.1
        have h := h.2
        refine zt_iald (f := 30) G (by decide) rfl (w32_r _) o48.1 o48.2 dX1_readAnswer_175 ?_
        refine zv_if_eq (tgt := 185) G (hu45.a 30 _ (by decide)) (by decide) dX1_readAnswer_176 (fun c49 => ?_) (fun c49 => ?_)
        · have h := h.1 c49
          exact zv_pick [] rfl (cpT_readAnswer_185 G M S hk h)
        · have h := h.2 c49
          refine zv_aload_n G rfl rfl dX1_readAnswer_179 ?_
          refine zv_iconst (a := 5) G (by decide) dX1_readAnswer_180 ?_
          refine zv_iload_n G rfl rfl dX1_readAnswer_181 ?_
          refine zt_callV (as := [ai 5, ai x2_10]) G M (S 13 _ rfl _ _ _ h (zoks_cons (zr_k 5 (by decide) (by decide)) (zoks_cons rx2_10 zoks_nil))) q2616 q2618 qs74 q2619 md_fails rfl (by decide) (Nat.le_of_ble_eq_true rfl) dX1_readAnswer_182 (fun u50 h => ?_)
          refine zt_tok G (fun hu50 => ?_)
          exact zv_pick [] rfl (cpT_readAnswer_185 G M S hk h)
      refine zv_if_lt (tgt := 153) G rv9 (by decide) dX1_readAnswer_139 (fun c54 => ?_) (fun c54 => ?_)
      · exact kt51 (Or.inl c54)
      · refine zv_aload_n G rfl rfl dX1_readAnswer_142 ?_
        refine zt_get (k := 31) (v := ai (tI u45 31)) G (by decide) q2186 rfl dX1_readAnswer_143 ?_
        refine zv_iload_n G rfl rfl dX1_readAnswer_146 ?_
        refine zv_ishr G dX1_readAnswer_147 ?_
        refine zv_iconst (a := 1) G (by decide) dX1_readAnswer_148 ?_
        refine zv_iand G dX1_readAnswer_149 ?_
        refine zv_if_ne (tgt := 162) G (by first | exact i_and_r _ _ | exact i_or_r _ _ | exact i_shl_r _ _ | exact i_shr_r _ _ | exact i_ushr_r _ _ | exact i_b_r _ | exact i_c_r _ | exact i_xor_r _ _ | exact i_div_r _ _ | exact i_rem_r _ _ | exact zr_of _) (by decide) dX1_readAnswer_150 (fun c55 => ?_) (fun c55 => ?_)
        · exact kf52 (fun q => q.elim c54 c55)
        · exact kt51 (Or.inr c55)
  · have h := h.2 c5
    refine zv_aload_n G rfl rfl dX1_readAnswer_31 ?_
    refine zt_get (k := 54) (v := ar (D.ad 54 + 1)) G (by decide) q2209 rfl dX1_readAnswer_32 ?_
    refine zv_aload_n G rfl rfl dX1_readAnswer_35 ?_
    refine zt_get (k := 27) (v := ai (tI u3 27)) G (by decide) q2182 rfl dX1_readAnswer_36 ?_
    refine zv_iconst (a := 0) G (by decide) dX1_readAnswer_39 ?_
    have o57 := h.1
    have h := h.2
    refine zt_iast (f := 54) G (by decide) rfl (hu3.i 27 (by decide)) (zr_k 0 (by decide) (by decide)) o57.1 o57.2 dX1_readAnswer_40 (fun u56 eu56 => ?_)
    have h := h u56 eu56
    refine zt_tok G (fun hu56 => ?_)
    refine zv_aload_n G rfl rfl dX1_readAnswer_41 ?_
    refine zt_get (k := 3) (v := ai (tI u56 3)) G (by decide) q2158 rfl dX1_readAnswer_42 ?_
    refine zv_iconst (a := 3) G (by decide) dX1_readAnswer_45 ?_
    have kt67 : ¬ ((tI u56 3) = 3) ∧ ((ff_isSign 45 u56) = 0) → ZV Γ u56 58 [(0, ar (D.x + 1))] [] := by
      intro c69
      have h := h.1 c69
      refine zv_aload_n G rfl rfl dX1_readAnswer_58 ?_
      refine zv_iconst (a := 2) G (by decide) dX1_readAnswer_59 ?_
      refine zt_callV (as := [ai 2]) G M (S 12 _ rfl _ _ _ h (zoks_cons (zr_k 2 (by decide) (by decide)) zoks_nil)) q2612 q2614 qs73 q2615 md_stop rfl (by decide) (Nat.le_of_ble_eq_true rfl) dX1_readAnswer_60 (fun u62 h => ?_)
      refine zt_tok G (fun hu62 => ?_)
      exact zv_vret G M dX1_readAnswer_63 h
    have kf68 : ¬ (¬ ((tI u56 3) = 3) ∧ ((ff_isSign 45 u56) = 0)) → ZV Γ u56 64 [(0, ar (D.x + 1))] [] := by
      intro c69
      have h := h.2 c69
      exact zv_pick [0] rfl (cpT_readAnswer_64 G M S hk h)
    refine zv_icmp_eq (tgt := 64) G (hu56.i 3 (by decide)) (zr_k 3 (by decide) (by decide)) (by decide) dX1_readAnswer_46 (fun c70 => ?_) (fun c70 => ?_)
    · exact kf68 (fun q => q.1 c70)
    · refine zv_aload_n G rfl rfl dX1_readAnswer_49 ?_
      refine zv_bipush (a := 45) G (by decide) dX1_readAnswer_50 ?_
      refine zt_callI (as := [ai 45]) G M (S 18 _ rfl _ _ _ (fu_isSign (by omega)) (zoks_cons (zr_k 45 (by decide) (by decide)) zoks_nil)) q2636 q2638 qs79 q2639 md_isSign rfl (by decide) (Nat.le_of_ble_eq_true rfl) dX1_readAnswer_52 (fun v60 u61 _ q => ?_)
      obtain ⟨ev60, eu61⟩ := q
      rw [eu61, ev60]
      refine zv_if_ne (tgt := 64) G (fr_isSign hu56 (zr_k 45 (by decide) (by decide))) (by decide) dX1_readAnswer_55 (fun c71 => ?_) (fun c71 => ?_)
      · exact kf68 (fun q => c71 q.2)
      · exact kt67 ⟨c70, c71⟩
set_option maxHeartbeats 4000000 in
set_option maxRecDepth 100000 in
theorem cpT_readRule_199 {Γ : ZG TW} {D : TD} {B0 d : Nat} {lim : Nat × Nat} (G : ZOk Γ cX1_readRule RX1 7 (KnT D B0) (ZT D B0)) (M : ZRm Γ (d + 1) lim none "readRule" []) (S : SdT d D B0 Γ.l lim) (hk : 1 ≤ d) {I85 : Int → Int → TW → Prop} {x1 : Int} {x2 : Int} {x4 : Int} {x5 : Int} {w : TW} (hI85 : ∀ (x3 : Int) (x4 : Int) (w : TW), I85 x3 x4 w → zr x3 → zr x4 → ZV Γ w 85 [(0, ar (D.x + 1)), (1, ai x1), (2, ai x2), (3, ai x3), (4, ai x4)] []) (rx1 : zr x1) (rx2 : zr x2) (rx4 : zr x4) (rx5 : zr x5) (h : pT_readRule_199 (wpT d) (fun w => Γ.Q (.inl none) w) I85 x1 x2 x4 x5 w) : ZV Γ w 199 [(0, ar (D.x + 1)), (1, ai x1), (2, ai x2), (4, ai x4), (5, ai x5)] [] := by
  refine zt_tok G (fun hw => ?_)
  refine zv_iload G rfl dX1_readRule_199 ?_
  refine zv_istore_n G rfl (by decide) rfl dX1_readRule_201 ?_
  refine zv_aload_n G rfl rfl dX1_readRule_202 ?_
  refine zt_get (k := 49) (v := ar (D.ad 49 + 1)) G (by decide) q2204 rfl dX1_readRule_203 ?_
  refine zv_aload_n G rfl rfl dX1_readRule_206 ?_
  refine zt_get (k := 27) (v := ai (tI w 27)) G (by decide) q2182 rfl dX1_readRule_207 ?_
  have o31 := h.1
  have h := h.2
  refine zt_iald (f := 49) G (by decide) rfl (hw.i 27 (by decide)) o31.1 o31.2 dX1_readRule_210 ?_
  refine zv_aload_n G rfl rfl dX1_readRule_211 ?_
  refine zt_get (k := 26) (v := ar (D.ad 26 + 1)) G (by decide) q2181 rfl dX1_readRule_212 ?_
  refine zv_iload G rfl dX1_readRule_215 ?_
  have o32 := h.1
  have h := h.2
  refine zt_iald (f := 26) G (by decide) rfl rx5 o32.1 o32.2 dX1_readRule_217 ?_
  refine zv_imul G dX1_readRule_218 ?_
  refine zv_istoreN G (by decide) dX1_readRule_219 (fun x6_33 ex6_33 => ?_)
  have h := h x6_33 ex6_33
  have rx6_33 : zr x6_33 := by rw [ex6_33]; exact (w32_r _)
  refine zv_aload_n G rfl rfl dX1_readRule_221 ?_
  refine zt_get (k := 49) (v := ar (D.ad 49 + 1)) G (by decide) q2204 rfl dX1_readRule_222 ?_
  refine zv_aload_n G rfl rfl dX1_readRule_225 ?_
  refine zt_get (k := 27) (v := ai (tI w 27)) G (by decide) q2182 rfl dX1_readRule_226 ?_
  refine zv_iload G rfl dX1_readRule_229 ?_
  refine zv_sipush (a := 1000) G (by decide) dX1_readRule_231 ?_
  have kj38 : ∀ v34 : Int, v34 = (if ¬ (x6_33 ≤ 1000) then 1000 else x6_33) → ZV Γ w 245 [(6, ai x6_33), (3, ai x5), (0, ar (D.x + 1)), (1, ai x1), (2, ai x2), (4, ai x4), (5, ai x5)] (ai v34 :: ai (tI w 27) :: ar (D.ad 49 + 1) :: []) := by
    intro v34 ev34
    have h := h v34 ev34
    have rv34 : zr v34 := by rw [ev34]; exact (zr_ite (zr_k 1000 (by decide) (by decide)) rx6_33)
    have o36 := h.1
    have h := h.2
    refine zt_iast (f := 49) G (by decide) rfl (hw.i 27 (by decide)) rv34 o36.1 o36.2 dX1_readRule_245 (fun u35 eu35 => ?_)
    have h := h u35 eu35
    refine zt_tok G (fun hu35 => ?_)
    refine zv_iincN G rfl (by decide) dX1_readRule_246 (fun x4_37 ex4_37 => ?_)
    have h := h x4_37 ex4_37
    have rx4_37 : zr x4_37 := by rw [ex4_37]; exact w32_r _
    refine zv_goto (tgt := 85) G (by decide) dX1_readRule_249 ?_
    exact zv_pick [0, 1, 2, 3, 4] rfl (hI85 _ _ _ h rx5 rx4_37)
  refine zv_icmp_le (tgt := 243) G rx6_33 (zr_k 1000 (by decide) (by decide)) (by decide) dX1_readRule_234 (fun c39 => ?_) (fun c39 => ?_)
  · refine zv_iload G rfl dX1_readRule_243 ?_
    exact kj38 _ (if_neg (fun q => q c39)).symm
  · refine zv_sipush (a := 1000) G (by decide) dX1_readRule_237 ?_
    refine zv_goto (tgt := 245) G (by decide) dX1_readRule_240 ?_
    exact kj38 _ (if_pos c39).symm
set_option maxHeartbeats 4000000 in
set_option maxRecDepth 100000 in
theorem cpT_readRule_171 {Γ : ZG TW} {D : TD} {B0 d : Nat} {lim : Nat × Nat} (G : ZOk Γ cX1_readRule RX1 7 (KnT D B0) (ZT D B0)) (M : ZRm Γ (d + 1) lim none "readRule" []) (S : SdT d D B0 Γ.l lim) (hk : 1 ≤ d) {w : TW} (h : pT_readRule_171 (wpT d) (fun w => Γ.Q (.inl none) w) w) : ZV Γ w 171 [] [] := by
  refine zt_tok G (fun hw => ?_)
  exact zv_vret G M dX1_readRule_171 h
set_option maxHeartbeats 4000000 in
set_option maxRecDepth 100000 in
theorem cpT_readRule_133 {Γ : ZG TW} {D : TD} {B0 d : Nat} {lim : Nat × Nat} (G : ZOk Γ cX1_readRule RX1 7 (KnT D B0) (ZT D B0)) (M : ZRm Γ (d + 1) lim none "readRule" []) (S : SdT d D B0 Γ.l lim) (hk : 1 ≤ d) {I85 : Int → Int → TW → Prop} {x1 : Int} {x2 : Int} {x3 : Int} {x4 : Int} {w : TW} (hI85 : ∀ (x3 : Int) (x4 : Int) (w : TW), I85 x3 x4 w → zr x3 → zr x4 → ZV Γ w 85 [(0, ar (D.x + 1)), (1, ai x1), (2, ai x2), (3, ai x3), (4, ai x4)] []) (rx1 : zr x1) (rx2 : zr x2) (rx3 : zr x3) (rx4 : zr x4) (h : pT_readRule_133 (wpT d) (fun w => Γ.Q (.inl none) w) I85 x1 x2 x3 x4 w) : ZV Γ w 133 [(0, ar (D.x + 1)), (1, ai x1), (2, ai x2), (3, ai x3), (4, ai x4)] [] := by
  refine zt_tok G (fun hw => ?_)
  refine zv_aload_n G rfl rfl dX1_readRule_133 ?_
  refine zv_aload_n G rfl rfl dX1_readRule_134 ?_
  refine zt_get (k := 44) (v := ar (D.ad 44 + 1)) G (by decide) q2199 rfl dX1_readRule_135 ?_
  refine zv_iconst (a := 3) G (by decide) dX1_readRule_138 ?_
  refine zv_iload_n G rfl rfl dX1_readRule_139 ?_
  refine zv_imul G dX1_readRule_140 ?_
  refine zv_iload G rfl dX1_readRule_141 ?_
  refine zv_iadd G dX1_readRule_143 ?_
  have o23 := h.1
  have h := h.2
  refine zt_iald (f := 44) G (by decide) rfl (w32_r _) o23.1 o23.2 dX1_readRule_144 ?_
  refine zv_iload_n G rfl rfl dX1_readRule_145 ?_
  have kj42 : ∀ v24 : Int, v24 = (if ¬ (x2 = 0) ∧ (x4 = 0) then 1 else 0) → ZV Γ w 159 [(0, ar (D.x + 1)), (1, ai x1), (2, ai x2), (3, ai x3), (4, ai x4)] (ai v24 :: ai (tA w 44 (w32 ((w32 (3 * x1)) + x4))) :: ar (D.x + 1) :: []) := by
    intro v24 ev24
    have h := h v24 ev24
    have rv24 : zr v24 := by rw [ev24]; exact (zr_ite (zr_k 1 (by decide) (by decide)) (zr_k 0 (by decide) (by decide)))
    have bv24 : v24 = 0 ∨ v24 = 1 := by rw [ev24]; exact (zb_ite (Or.inr rfl) (Or.inl rfl))
    refine zt_callI (as := [ai (tA w 44 (w32 ((w32 (3 * x1)) + x4))), ai v24]) G M (S 24 _ rfl _ _ _ h (zoks_cons (hw.a 44 _ (by decide)) (zoks_cons rv24 zoks_nil))) q2662 q2664 qs85 q2665 md_readPattern rfl (by decide) (Nat.le_of_ble_eq_true rfl) dX1_readRule_159 (fun v26 u25 rv26 h => ?_)
    refine zt_tok G (fun hu25 => ?_)
    refine zv_istore G (by decide) rfl dX1_readRule_162 ?_
    refine zv_aload_n G rfl rfl dX1_readRule_164 ?_
    refine zt_get (k := 7) (v := ai (tI u25 7)) G (by decide) q2162 rfl dX1_readRule_165 ?_
    refine zv_if_eq (tgt := 172) G (hu25.i 7 (by decide)) (by decide) dX1_readRule_168 (fun c27 => ?_) (fun c27 => ?_)
    · have h := h.1 c27
      refine zv_iload G rfl dX1_readRule_172 ?_
      refine zv_if_ne (tgt := 191) G rx4 (by decide) dX1_readRule_174 (fun c28 => ?_) (fun c28 => ?_)
      · have h := h.2 c28
        refine zv_aload_n G rfl rfl dX1_readRule_191 ?_
        refine zt_get (k := 23) (v := ar (D.ad 23 + 1)) G (by decide) q2178 rfl dX1_readRule_192 ?_
        refine zv_iload_n G rfl rfl dX1_readRule_195 ?_
        refine zv_iload G rfl dX1_readRule_196 ?_
        have o30 := h.1
        have h := h.2
        refine zt_iast (f := 23) G (by decide) rfl rx3 rv26 o30.1 o30.2 dX1_readRule_198 (fun u29 eu29 => ?_)
        have h := h u29 eu29
        refine zt_tok G (fun hu29 => ?_)
        exact zv_pick [0, 1, 2, 4, 5] rfl (cpT_readRule_199 G M S hk hI85 rx1 rx2 rx4 rv26 h)
      · have h := h.1 c28
        refine zv_aload_n G rfl rfl dX1_readRule_177 ?_
        refine zt_get (k := 47) (v := ar (D.ad 47 + 1)) G (by decide) q2202 rfl dX1_readRule_178 ?_
        refine zv_aload_n G rfl rfl dX1_readRule_181 ?_
        refine zt_get (k := 27) (v := ai (tI u25 27)) G (by decide) q2182 rfl dX1_readRule_182 ?_
        refine zv_iload G rfl dX1_readRule_185 ?_
        have o41 := h.1
        have h := h.2
        refine zt_iast (f := 47) G (by decide) rfl (hu25.i 27 (by decide)) rv26 o41.1 o41.2 dX1_readRule_187 (fun u40 eu40 => ?_)
        have h := h u40 eu40
        refine zt_tok G (fun hu40 => ?_)
        refine zv_goto (tgt := 199) G (by decide) dX1_readRule_188 ?_
        exact zv_pick [0, 1, 2, 4, 5] rfl (cpT_readRule_199 G M S hk hI85 rx1 rx2 rx4 rv26 h)
    · have h := h.2 c27
      exact zv_pick [] rfl (cpT_readRule_171 G M S hk h)
  refine zv_if_eq (tgt := 158) G rx2 (by decide) dX1_readRule_146 (fun c43 => ?_) (fun c43 => ?_)
  · refine zv_iconst (a := 0) G (by decide) dX1_readRule_158 ?_
    exact kj42 _ (if_neg (fun q => q.1 c43)).symm
  · refine zv_iload G rfl dX1_readRule_149 ?_
    refine zv_if_ne (tgt := 158) G rx4 (by decide) dX1_readRule_151 (fun c44 => ?_) (fun c44 => ?_)
    · refine zv_iconst (a := 0) G (by decide) dX1_readRule_158 ?_
      exact kj42 _ (if_neg (fun q => c44 q.2)).symm
    · refine zv_iconst (a := 1) G (by decide) dX1_readRule_154 ?_
      refine zv_goto (tgt := 159) G (by decide) dX1_readRule_155 ?_
      exact kj42 _ (if_pos ⟨c43, c44⟩).symm
set_option maxHeartbeats 4000000 in
set_option maxRecDepth 100000 in
theorem cpT_readRule_132 {Γ : ZG TW} {D : TD} {B0 d : Nat} {lim : Nat × Nat} (G : ZOk Γ cX1_readRule RX1 7 (KnT D B0) (ZT D B0)) (M : ZRm Γ (d + 1) lim none "readRule" []) (S : SdT d D B0 Γ.l lim) (hk : 1 ≤ d) {w : TW} (h : pT_readRule_132 (wpT d) (fun w => Γ.Q (.inl none) w) w) : ZV Γ w 132 [] [] := by
  refine zt_tok G (fun hw => ?_)
  exact zv_vret G M dX1_readRule_132 h
set_option maxHeartbeats 4000000 in
set_option maxRecDepth 100000 in
theorem cpT_readRule_123 {Γ : ZG TW} {D : TD} {B0 d : Nat} {lim : Nat × Nat} (G : ZOk Γ cX1_readRule RX1 7 (KnT D B0) (ZT D B0)) (M : ZRm Γ (d + 1) lim none "readRule" []) (S : SdT d D B0 Γ.l lim) (hk : 1 ≤ d) {I85 : Int → Int → TW → Prop} {x1 : Int} {x2 : Int} {x3 : Int} {x4 : Int} {w : TW} (hI85 : ∀ (x3 : Int) (x4 : Int) (w : TW), I85 x3 x4 w → zr x3 → zr x4 → ZV Γ w 85 [(0, ar (D.x + 1)), (1, ai x1), (2, ai x2), (3, ai x3), (4, ai x4)] []) (rx1 : zr x1) (rx2 : zr x2) (rx3 : zr x3) (rx4 : zr x4) (h : pT_readRule_123 (wpT d) (fun w => Γ.Q (.inl none) w) I85 x1 x2 x3 x4 w) : ZV Γ w 123 [(0, ar (D.x + 1)), (1, ai x1), (2, ai x2), (3, ai x3), (4, ai x4)] [] := by
  refine zt_tok G (fun hw => ?_)
  refine zv_aload_n G rfl rfl dX1_readRule_123 ?_
  refine zv_bipush (a := 44) G (by decide) dX1_readRule_124 ?_
  refine zt_callI (as := [ai 44]) G M (S 17 _ rfl _ _ _ h (zoks_cons (zr_k 44 (by decide) (by decide)) zoks_nil)) q2632 q2634 qs78 q2635 md_takes rfl (by decide) (Nat.le_of_ble_eq_true rfl) dX1_readRule_126 (fun v49 u48 rv49 h => ?_)
  refine zt_tok G (fun hu48 => ?_)
  refine zv_if_ne (tgt := 133) G rv49 (by decide) dX1_readRule_129 (fun c50 => ?_) (fun c50 => ?_)
  · have h := h.2 c50
    exact zv_pick [0, 1, 2, 3, 4] rfl (cpT_readRule_133 G M S hk hI85 rx1 rx2 rx3 rx4 h)
  · have h := h.1 c50
    exact zv_pick [] rfl (cpT_readRule_132 G M S hk h)
set_option maxHeartbeats 4000000 in
set_option maxRecDepth 100000 in
theorem cpT_readRule_299 {Γ : ZG TW} {D : TD} {B0 d : Nat} {lim : Nat × Nat} (G : ZOk Γ cX1_readRule RX1 7 (KnT D B0) (ZT D B0)) (M : ZRm Γ (d + 1) lim none "readRule" []) (S : SdT d D B0 Γ.l lim) (hk : 1 ≤ d) {x1 : Int} {w : TW} (rx1 : zr x1) (h : pT_readRule_299 (wpT d) (fun w => Γ.Q (.inl none) w) x1 w) : ZV Γ w 299 [(0, ar (D.x + 1)), (1, ai x1)] [] := by
  refine zt_tok G (fun hw => ?_)
  refine zv_aload_n G rfl rfl dX1_readRule_299 ?_
  refine zv_bipush (a := 59) G (by decide) dX1_readRule_300 ?_
  refine zt_callV (as := [ai 59]) G M (S 20 _ rfl _ _ _ h (zoks_cons (zr_k 59 (by decide) (by decide)) zoks_nil)) q2646 q2648 qs81 q2649 md_must rfl (by decide) (Nat.le_of_ble_eq_true rfl) dX1_readRule_302 (fun u60 h => ?_)
  refine zt_tok G (fun hu60 => ?_)
  refine zv_aload_n G rfl rfl dX1_readRule_305 ?_
  refine zt_get (k := 45) (v := ar (D.ad 45 + 1)) G (by decide) q2200 rfl dX1_readRule_306 ?_
  refine zv_iload_n G rfl rfl dX1_readRule_309 ?_
  refine zv_dup2_11 G rfl rfl dX1_readRule_310 ?_
  have o61 := h.1
  have h := h.2
  refine zt_iald (f := 45) G (by decide) rfl rx1 o61.1 o61.2 dX1_readRule_311 ?_
  refine zv_iconst (a := 1) G (by decide) dX1_readRule_312 ?_
  refine zv_iadd G dX1_readRule_313 ?_
  have o63 := h.1
  have h := h.2
  refine zt_iast (f := 45) G (by decide) rfl rx1 (w32_r _) o63.1 o63.2 dX1_readRule_314 (fun u62 eu62 => ?_)
  have h := h u62 eu62
  refine zt_tok G (fun hu62 => ?_)
  exact zv_vret G M dX1_readRule_315 h
set_option maxHeartbeats 4000000 in
set_option maxRecDepth 100000 in
theorem cpT_readRule_278 {Γ : ZG TW} {D : TD} {B0 d : Nat} {lim : Nat × Nat} (G : ZOk Γ cX1_readRule RX1 7 (KnT D B0) (ZT D B0)) (M : ZRm Γ (d + 1) lim none "readRule" []) (S : SdT d D B0 Γ.l lim) (hk : 1 ≤ d) {x1 : Int} {w : TW} (rx1 : zr x1) (h : pT_readRule_278 (wpT d) (fun w => Γ.Q (.inl none) w) x1 w) : ZV Γ w 278 [(0, ar (D.x + 1)), (1, ai x1)] [] := by
  refine zt_tok G (fun hw => ?_)
  refine zv_aload_n G rfl rfl dX1_readRule_278 ?_
  refine zt_callV (as := []) G M (S 38 _ rfl _ _ _ h zoks_nil) q2718 q2720 qs99 q2721 md_readGuard rfl (by decide) (Nat.le_of_ble_eq_true rfl) dX1_readRule_279 (fun u57 h => ?_)
  refine zt_tok G (fun hu57 => ?_)
  refine zv_aload_n G rfl rfl dX1_readRule_282 ?_
  refine zv_bipush (a := 58) G (by decide) dX1_readRule_283 ?_
  refine zt_callV (as := [ai 58]) G M (S 20 _ rfl _ _ _ h (zoks_cons (zr_k 58 (by decide) (by decide)) zoks_nil)) q2646 q2648 qs81 q2649 md_must rfl (by decide) (Nat.le_of_ble_eq_true rfl) dX1_readRule_285 (fun u58 h => ?_)
  refine zt_tok G (fun hu58 => ?_)
  refine zv_aload_n G rfl rfl dX1_readRule_288 ?_
  refine zt_get (k := 7) (v := ai (tI u58 7)) G (by decide) q2162 rfl dX1_readRule_289 ?_
  refine zv_if_ne (tgt := 299) G (hu58.i 7 (by decide)) (by decide) dX1_readRule_292 (fun c59 => ?_) (fun c59 => ?_)
  · have h := h.2 c59
    exact zv_pick [0, 1] rfl (cpT_readRule_299 G M S hk rx1 h)
  · have h := h.1 c59
    refine zv_aload_n G rfl rfl dX1_readRule_295 ?_
    refine zt_callV (as := []) G M (S 42 _ rfl _ _ _ h zoks_nil) q2734 q2736 qs103 q2737 md_readAnswer rfl (by decide) (Nat.le_of_ble_eq_true rfl) dX1_readRule_296 (fun u64 h => ?_)
    refine zt_tok G (fun hu64 => ?_)
    exact zv_pick [0, 1] rfl (cpT_readRule_299 G M S hk rx1 h)
set_option maxHeartbeats 4000000 in
set_option maxRecDepth 100000 in
theorem cpT_readRule_252 {Γ : ZG TW} {D : TD} {B0 d : Nat} {lim : Nat × Nat} (G : ZOk Γ cX1_readRule RX1 7 (KnT D B0) (ZT D B0)) (M : ZRm Γ (d + 1) lim none "readRule" []) (S : SdT d D B0 Γ.l lim) (hk : 1 ≤ d) {x1 : Int} {w : TW} (rx1 : zr x1) (h : pT_readRule_252 (wpT d) (fun w => Γ.Q (.inl none) w) x1 w) : ZV Γ w 252 [(0, ar (D.x + 1)), (1, ai x1)] [] := by
  refine zt_tok G (fun hw => ?_)
  refine zv_aload_n G rfl rfl dX1_readRule_252 ?_
  refine zt_get (k := 7) (v := ai (tI w 7)) G (by decide) q2162 rfl dX1_readRule_253 ?_
  have kt65 : ((tI w 7) = 0) ∧ (¬ ((ff_isSign 44 w) = 0)) → ZV Γ w 268 [(0, ar (D.x + 1)), (1, ai x1)] [] := by
    intro c67
    have h := h.1 c67
    refine zv_aload_n G rfl rfl dX1_readRule_268 ?_
    refine zv_bipush (a := 6) G (by decide) dX1_readRule_269 ?_
    refine zv_aload_n G rfl rfl dX1_readRule_271 ?_
    refine zt_get (k := 5) (v := ai (tI w 5)) G (by decide) q2160 rfl dX1_readRule_272 ?_
    refine zt_callV (as := [ai 6, ai (tI w 5)]) G M (S 13 _ rfl _ _ _ h (zoks_cons (zr_k 6 (by decide) (by decide)) (zoks_cons (hw.i 5 (by decide)) zoks_nil))) q2616 q2618 qs74 q2619 md_fails rfl (by decide) (Nat.le_of_ble_eq_true rfl) dX1_readRule_275 (fun u56 h => ?_)
    refine zt_tok G (fun hu56 => ?_)
    exact zv_pick [0, 1] rfl (cpT_readRule_278 G M S hk rx1 h)
  have kf66 : ¬ (((tI w 7) = 0) ∧ (¬ ((ff_isSign 44 w) = 0))) → ZV Γ w 278 [(0, ar (D.x + 1)), (1, ai x1)] [] := by
    intro c67
    have h := h.2 c67
    exact zv_pick [0, 1] rfl (cpT_readRule_278 G M S hk rx1 h)
  refine zv_if_ne (tgt := 278) G (hw.i 7 (by decide)) (by decide) dX1_readRule_256 (fun c68 => ?_) (fun c68 => ?_)
  · exact kf66 (fun q => c68 q.1)
  · refine zv_aload_n G rfl rfl dX1_readRule_259 ?_
    refine zv_bipush (a := 44) G (by decide) dX1_readRule_260 ?_
    refine zt_callI (as := [ai 44]) G M (S 18 _ rfl _ _ _ (fu_isSign (by omega)) (zoks_cons (zr_k 44 (by decide) (by decide)) zoks_nil)) q2636 q2638 qs79 q2639 md_isSign rfl (by decide) (Nat.le_of_ble_eq_true rfl) dX1_readRule_262 (fun v54 u55 _ q => ?_)
    obtain ⟨ev54, eu55⟩ := q
    rw [eu55, ev54]
    refine zv_if_eq (tgt := 278) G (fr_isSign hw (zr_k 44 (by decide) (by decide))) (by decide) dX1_readRule_265 (fun c69 => ?_) (fun c69 => ?_)
    · exact kf66 (fun q => (fun q => q c69) q.2)
    · exact kt65 ⟨c68, c69⟩
set_option maxHeartbeats 4000000 in
set_option maxRecDepth 100000 in
theorem cpT_readRule_85 {Γ : ZG TW} {D : TD} {B0 d : Nat} {lim : Nat × Nat} (G : ZOk Γ cX1_readRule RX1 7 (KnT D B0) (ZT D B0)) (M : ZRm Γ (d + 1) lim none "readRule" []) (S : SdT d D B0 Γ.l lim) (hk : 1 ≤ d) {x1 : Int} {x2 : Int} {x3 : Int} {x4 : Int} {w : TW} (rx1 : zr x1) (rx2 : zr x2) (rx3 : zr x3) (rx4 : zr x4) (h : pT_readRule_85 (wpT d) (fun w => Γ.Q (.inl none) w) x1 x2 x3 x4 w) : ZV Γ w 85 [(0, ar (D.x + 1)), (1, ai x1), (2, ai x2), (3, ai x3), (4, ai x4)] [] := by
  refine h (fun x3 x4 w => zr x3 → zr x4 → ZV Γ w 85 [(0, ar (D.x + 1)), (1, ai x1), (2, ai x2), (3, ai x3), (4, ai x4)] []) ?_ rx3 rx4
  clear h
  intro x3 x4 w h rx3 rx4
  have hI85 : ∀ (x3 : Int) (x4 : Int) (w : TW), (fun x3 x4 w => zr x3 → zr x4 → ZV Γ w 85 [(0, ar (D.x + 1)), (1, ai x1), (2, ai x2), (3, ai x3), (4, ai x4)] []) x3 x4 w → zr x3 → zr x4 → ZV Γ w 85 [(0, ar (D.x + 1)), (1, ai x1), (2, ai x2), (3, ai x3), (4, ai x4)] [] := fun _ _ _ z => z
  refine zt_tok G (fun hw => ?_)
  refine zv_iload G rfl dX1_readRule_85 ?_
  refine zv_aload_n G rfl rfl dX1_readRule_87 ?_
  refine zt_get (k := 43) (v := ar (D.ad 43 + 1)) G (by decide) q2198 rfl dX1_readRule_88 ?_
  refine zv_iload_n G rfl rfl dX1_readRule_91 ?_
  have o13 := h.1
  have h := h.2
  refine zt_iald (f := 43) G (by decide) rfl rx1 o13.1 o13.2 dX1_readRule_92 ?_
  have kt70 : ¬ ((tA w 43 x1) ≤ x4) ∧ ((tI w 7) = 0) → ZV Γ w 103 [(0, ar (D.x + 1)), (1, ai x1), (2, ai x2), (3, ai x3), (4, ai x4)] [] := by
    intro c72
    have h := h.1 c72
    refine zv_iload G rfl dX1_readRule_103 ?_
    refine zv_if_le (tgt := 133) G rx4 (by decide) dX1_readRule_105 (fun c22 => ?_) (fun c22 => ?_)
    · have h := h.1 c22
      exact zv_pick [0, 1, 2, 3, 4] rfl (cpT_readRule_133 G M S hk hI85 rx1 rx2 rx3 rx4 h)
    · have h := h.2 c22
      refine zv_aload_n G rfl rfl dX1_readRule_108 ?_
      refine zv_bipush (a := 44) G (by decide) dX1_readRule_109 ?_
      refine zt_callI (as := [ai 44]) G M (S 18 _ rfl _ _ _ (fu_isSign (by omega)) (zoks_cons (zr_k 44 (by decide) (by decide)) zoks_nil)) q2636 q2638 qs79 q2639 md_isSign rfl (by decide) (Nat.le_of_ble_eq_true rfl) dX1_readRule_111 (fun v45 u46 _ q => ?_)
      obtain ⟨ev45, eu46⟩ := q
      rw [eu46, ev45]
      refine zv_if_ne (tgt := 123) G (fr_isSign hw (zr_k 44 (by decide) (by decide))) (by decide) dX1_readRule_114 (fun c47 => ?_) (fun c47 => ?_)
      · have h := h.2 c47
        exact zv_pick [0, 1, 2, 3, 4] rfl (cpT_readRule_123 G M S hk hI85 rx1 rx2 rx3 rx4 h)
      · have h := h.1 c47
        refine zv_aload_n G rfl rfl dX1_readRule_117 ?_
        refine zv_bipush (a := 6) G (by decide) dX1_readRule_118 ?_
        refine zt_callV (as := [ai 6]) G M (S 12 _ rfl _ _ _ h (zoks_cons (zr_k 6 (by decide) (by decide)) zoks_nil)) q2612 q2614 qs73 q2615 md_stop rfl (by decide) (Nat.le_of_ble_eq_true rfl) dX1_readRule_120 (fun u51 h => ?_)
        refine zt_tok G (fun hu51 => ?_)
        exact zv_pick [0, 1, 2, 3, 4] rfl (cpT_readRule_123 G M S hk hI85 rx1 rx2 rx3 rx4 h)
  have kf71 : ¬ (¬ ((tA w 43 x1) ≤ x4) ∧ ((tI w 7) = 0)) → ZV Γ w 252 [(0, ar (D.x + 1)), (1, ai x1), (2, ai x2), (3, ai x3), (4, ai x4)] [] := by
    intro c72
    have h := h.2 c72
    exact zv_pick [0, 1] rfl (cpT_readRule_252 G M S hk rx1 h)
  refine zv_icmp_ge (tgt := 252) G rx4 (hw.a 43 _ (by decide)) (by decide) dX1_readRule_93 (fun c73 => ?_) (fun c73 => ?_)
  · exact kf71 (fun q => q.1 c73)
  · refine zv_aload_n G rfl rfl dX1_readRule_96 ?_
    refine zt_get (k := 7) (v := ai (tI w 7)) G (by decide) q2162 rfl dX1_readRule_97 ?_
    refine zv_if_ne (tgt := 252) G (hw.i 7 (by decide)) (by decide) dX1_readRule_100 (fun c74 => ?_) (fun c74 => ?_)
    · exact kf71 (fun q => c74 q.2)
    · exact kt70 ⟨c73, c74⟩
set_option maxHeartbeats 4000000 in
set_option maxRecDepth 100000 in
theorem cpT_readRule_0 {Γ : ZG TW} {D : TD} {B0 d : Nat} {lim : Nat × Nat} (G : ZOk Γ cX1_readRule RX1 7 (KnT D B0) (ZT D B0)) (M : ZRm Γ (d + 1) lim none "readRule" []) (S : SdT d D B0 Γ.l lim) (hk : 1 ≤ d) {x1 : Int} {w : TW} (rx1 : zr x1) (h : pT_readRule_0 (wpT d) (fun w => Γ.Q (.inl none) w) x1 w) : ZV Γ w 0 [(0, ar (D.x + 1)), (1, ai x1)] [] := by
  refine zt_tok G (fun hw => ?_)
  refine zv_aload_n G rfl rfl dX1_readRule_0 ?_
  refine zt_get (k := 45) (v := ar (D.ad 45 + 1)) G (by decide) q2200 rfl dX1_readRule_1 ?_
  refine zv_iload_n G rfl rfl dX1_readRule_4 ?_
  have o1 := h.1
  have h := h.2
  refine zt_iald (f := 45) G (by decide) rfl rx1 o1.1 o1.2 dX1_readRule_5 ?_
  refine zv_bipush (a := 16) G (by decide) dX1_readRule_6 ?_
  have kj77 : ∀ v2 : Int, v2 = (if (tA w 45 x1) = 16 then 1 else 0) → ZV Γ w 16 [(0, ar (D.x + 1)), (1, ai x1)] (ai v2 :: []) := by
    intro v2 ev2
    have h := h v2 ev2
    have rv2 : zr v2 := by rw [ev2]; exact (zr_ite (zr_k 1 (by decide) (by decide)) (zr_k 0 (by decide) (by decide)))
    have bv2 : v2 = 0 ∨ v2 = 1 := by rw [ev2]; exact (zb_ite (Or.inr rfl) (Or.inl rfl))
    refine zv_istore_n G rfl (by decide) rfl dX1_readRule_16 ?_
    refine zv_aload_n G rfl rfl dX1_readRule_17 ?_
    refine zv_bipush (a := 16) G (by decide) dX1_readRule_18 ?_
    refine zv_iload_n G rfl rfl dX1_readRule_20 ?_
    refine zv_imul G dX1_readRule_21 ?_
    refine zv_iload_n G rfl rfl dX1_readRule_22 ?_
    have o4 := h.1
    have h := h.2
    have kj75 : ∀ v3 : Int, v3 = (if ¬ (v2 = 0) then 15 else tA w 45 x1) → ZV Γ w 37 [(2, ai v2), (0, ar (D.x + 1)), (1, ai x1)] (ai v3 :: ai (w32 (16 * x1)) :: ar (D.x + 1) :: []) := by
      intro v3 ev3
      have h := h v3 ev3
      have rv3 : zr v3 := by rw [ev3]; exact (zr_ite (zr_k 15 (by decide) (by decide)) (hw.a 45 _ (by decide)))
      refine zv_iadd G dX1_readRule_37 ?_
      refine zt_putI (k := 27) G (by decide) q2182 rfl (tyX1_ok 27 (by decide)) rfl (w32_r _) dX1_readRule_38 (fun u5 eu5 => ?_)
      have h := h u5 eu5
      refine zt_tok G (fun hu5 => ?_)
      refine zv_aload_n G rfl rfl dX1_readRule_41 ?_
      refine zt_get (k := 48) (v := ar (D.ad 48 + 1)) G (by decide) q2203 rfl dX1_readRule_42 ?_
      refine zv_aload_n G rfl rfl dX1_readRule_45 ?_
      refine zt_get (k := 27) (v := ai (tI u5 27)) G (by decide) q2182 rfl dX1_readRule_46 ?_
      refine zv_aload_n G rfl rfl dX1_readRule_49 ?_
      refine zt_get (k := 5) (v := ai (tI u5 5)) G (by decide) q2160 rfl dX1_readRule_50 ?_
      have o7 := h.1
      have h := h.2
      refine zt_iast (f := 48) G (by decide) rfl (hu5.i 27 (by decide)) (hu5.i 5 (by decide)) o7.1 o7.2 dX1_readRule_53 (fun u6 eu6 => ?_)
      have h := h u6 eu6
      refine zt_tok G (fun hu6 => ?_)
      refine zv_aload_n G rfl rfl dX1_readRule_54 ?_
      refine zt_get (k := 28) (v := ar (D.ad 28 + 1)) G (by decide) q2183 rfl dX1_readRule_55 ?_
      refine zv_aload_n G rfl rfl dX1_readRule_58 ?_
      refine zt_get (k := 27) (v := ai (tI u6 27)) G (by decide) q2182 rfl dX1_readRule_59 ?_
      refine zv_iconst (a := 0) G (by decide) dX1_readRule_62 ?_
      have o9 := h.1
      have h := h.2
      refine zt_iast (f := 28) G (by decide) rfl (hu6.i 27 (by decide)) (zr_k 0 (by decide) (by decide)) o9.1 o9.2 dX1_readRule_63 (fun u8 eu8 => ?_)
      have h := h u8 eu8
      refine zt_tok G (fun hu8 => ?_)
      refine zv_aload_n G rfl rfl dX1_readRule_64 ?_
      refine zv_iconst (a := 0) G (by decide) dX1_readRule_65 ?_
      refine zt_putI (k := 31) G (by decide) q2186 rfl (tyX1_ok 31 (by decide)) rfl (zr_k 0 (by decide) (by decide)) dX1_readRule_66 (fun u10 eu10 => ?_)
      have h := h u10 eu10
      refine zt_tok G (fun hu10 => ?_)
      refine zv_bipush (a := (-4)) G (by decide) dX1_readRule_69 ?_
      refine zv_istore_n G rfl (by decide) rfl dX1_readRule_71 ?_
      refine zv_aload_n G rfl rfl dX1_readRule_72 ?_
      refine zt_get (k := 49) (v := ar (D.ad 49 + 1)) G (by decide) q2204 rfl dX1_readRule_73 ?_
      refine zv_aload_n G rfl rfl dX1_readRule_76 ?_
      refine zt_get (k := 27) (v := ai (tI u10 27)) G (by decide) q2182 rfl dX1_readRule_77 ?_
      refine zv_iconst (a := 1) G (by decide) dX1_readRule_80 ?_
      have o12 := h.1
      have h := h.2
      refine zt_iast (f := 49) G (by decide) rfl (hu10.i 27 (by decide)) (zr_k 1 (by decide) (by decide)) o12.1 o12.2 dX1_readRule_81 (fun u11 eu11 => ?_)
      have h := h u11 eu11
      refine zt_tok G (fun hu11 => ?_)
      refine zv_iconst (a := 0) G (by decide) dX1_readRule_82 ?_
      refine zv_istore G (by decide) rfl dX1_readRule_83 ?_
      exact zv_pick [0, 1, 2, 3, 4] rfl (cpT_readRule_85 G M S hk rx1 rv2 (zr_k (-4) (by decide) (by decide)) (zr_k 0 (by decide) (by decide)) h)
    refine zv_if_eq (tgt := 31) G rv2 (by decide) dX1_readRule_23 (fun c76 => ?_) (fun c76 => ?_)
    · refine zv_aload_n G rfl rfl dX1_readRule_31 ?_
      refine zt_get (k := 45) (v := ar (D.ad 45 + 1)) G (by decide) q2200 rfl dX1_readRule_32 ?_
      refine zv_iload_n G rfl rfl dX1_readRule_35 ?_
      refine zt_iald (f := 45) G (by decide) rfl rx1 (o4 c76).1 (o4 c76).2 dX1_readRule_36 ?_
      exact kj75 _ (if_neg (fun q => q c76)).symm
    · refine zv_bipush (a := 15) G (by decide) dX1_readRule_26 ?_
      refine zv_goto (tgt := 37) G (by decide) dX1_readRule_28 ?_
      exact kj75 _ (if_pos c76).symm
  refine zv_icmp_ne (tgt := 15) G (hw.a 45 _ (by decide)) (zr_k 16 (by decide) (by decide)) (by decide) dX1_readRule_8 (fun c78 => ?_) (fun c78 => ?_)
  · refine zv_iconst (a := 0) G (by decide) dX1_readRule_15 ?_
    exact kj77 _ (if_neg c78).symm
  · refine zv_iconst (a := 1) G (by decide) dX1_readRule_11 ?_
    refine zv_goto (tgt := 16) G (by decide) dX1_readRule_12 ?_
    exact kj77 _ (if_pos c78).symm
set_option maxHeartbeats 4000000 in
set_option maxRecDepth 100000 in
theorem cpT_readFunction_187 {Γ : ZG TW} {D : TD} {B0 d : Nat} {lim : Nat × Nat} (G : ZOk Γ cX1_readFunction RX1 4 (KnT D B0) (ZT D B0)) (M : ZRm Γ (d + 1) lim none "readFunction" []) (S : SdT d D B0 Γ.l lim) (hk : 1 ≤ d) {I123 : Int → TW → Prop} {x1 : Int} {w : TW} (hI123 : ∀ (x2 : Int) (w : TW), I123 x2 w → zr x2 → ZV Γ w 123 [(0, ar (D.x + 1)), (1, ai x1), (2, ai x2)] []) (rx1 : zr x1) (h : pT_readFunction_187 (wpT d) (fun w => Γ.Q (.inl none) w) I123 x1 w) : ZV Γ w 187 [(0, ar (D.x + 1)), (1, ai x1)] [] := by
  refine zt_tok G (fun hw => ?_)
  refine zv_aload_n G rfl rfl dX1_readFunction_187 ?_
  refine zv_bipush (a := 44) G (by decide) dX1_readFunction_188 ?_
  refine zt_callI (as := [ai 44]) G M (S 17 _ rfl _ _ _ h (zoks_cons (zr_k 44 (by decide) (by decide)) zoks_nil)) q2632 q2634 qs78 q2635 md_takes rfl (by decide) (Nat.le_of_ble_eq_true rfl) dX1_readFunction_190 (fun v24 u23 rv24 h => ?_)
  refine zt_tok G (fun hu23 => ?_)
  refine zv_istore_n G rfl (by decide) rfl dX1_readFunction_193 ?_
  refine zv_goto (tgt := 123) G (by decide) dX1_readFunction_194 ?_
  exact zv_pick [0, 1, 2] rfl (hI123 _ _ h rv24)
set_option maxHeartbeats 4000000 in
set_option maxRecDepth 100000 in
theorem cpT_readFunction_233 {Γ : ZG TW} {D : TD} {B0 d : Nat} {lim : Nat × Nat} (G : ZOk Γ cX1_readFunction RX1 4 (KnT D B0) (ZT D B0)) (M : ZRm Γ (d + 1) lim none "readFunction" []) (S : SdT d D B0 Γ.l lim) (hk : 1 ≤ d) {w : TW} (h : pT_readFunction_233 (wpT d) (fun w => Γ.Q (.inl none) w) w) : ZV Γ w 233 [(0, ar (D.x + 1))] [] := by
  refine zt_tok G (fun hw => ?_)
  refine zv_aload_n G rfl rfl dX1_readFunction_233 ?_
  refine zv_bipush (a := 125) G (by decide) dX1_readFunction_234 ?_
  refine zt_callV (as := [ai 125]) G M (S 20 _ rfl _ _ _ h (zoks_cons (zr_k 125 (by decide) (by decide)) zoks_nil)) q2646 q2648 qs81 q2649 md_must rfl (by decide) (Nat.le_of_ble_eq_true rfl) dX1_readFunction_236 (fun u40 h => ?_)
  refine zt_tok G (fun hu40 => ?_)
  exact zv_vret G M dX1_readFunction_239 h
set_option maxHeartbeats 4000000 in
set_option maxRecDepth 100000 in
theorem cpT_readFunction_209 {Γ : ZG TW} {D : TD} {B0 d : Nat} {lim : Nat × Nat} (G : ZOk Γ cX1_readFunction RX1 4 (KnT D B0) (ZT D B0)) (M : ZRm Γ (d + 1) lim none "readFunction" []) (S : SdT d D B0 Γ.l lim) (hk : 1 ≤ d) {x1 : Int} {w : TW} (rx1 : zr x1) (h : pT_readFunction_209 (wpT d) (fun w => Γ.Q (.inl none) w) x1 w) : ZV Γ w 209 [(0, ar (D.x + 1)), (1, ai x1)] [] := by
  refine h (fun w => ZV Γ w 209 [(0, ar (D.x + 1)), (1, ai x1)] []) ?_ 
  clear h
  intro w h 
  have hI209 : ∀ (w : TW), (fun w => ZV Γ w 209 [(0, ar (D.x + 1)), (1, ai x1)] []) w → ZV Γ w 209 [(0, ar (D.x + 1)), (1, ai x1)] [] := fun _ z => z
  refine zt_tok G (fun hw => ?_)
  refine zv_aload_n G rfl rfl dX1_readFunction_209 ?_
  refine zt_get (k := 7) (v := ai (tI w 7)) G (by decide) q2162 rfl dX1_readFunction_210 ?_
  have kt41 : ((tI w 7) = 0) ∧ ((ff_isSign 125 w) = 0) → ZV Γ w 225 [(0, ar (D.x + 1)), (1, ai x1)] [] := by
    intro c43
    have h := h.1 c43
    refine zv_aload_n G rfl rfl dX1_readFunction_225 ?_
    refine zv_iload_n G rfl rfl dX1_readFunction_226 ?_
    refine zt_callV (as := [ai x1]) G M (S 23 _ rfl _ _ _ h (zoks_cons rx1 zoks_nil)) q2658 q2660 qs84 q2661 md_readRule rfl (by decide) (Nat.le_of_ble_eq_true rfl) dX1_readFunction_227 (fun u39 h => ?_)
    refine zt_tok G (fun hu39 => ?_)
    refine zv_goto (tgt := 209) G (by decide) dX1_readFunction_230 ?_
    exact zv_pick [0, 1] rfl (hI209 _ h )
  have kf42 : ¬ (((tI w 7) = 0) ∧ ((ff_isSign 125 w) = 0)) → ZV Γ w 233 [(0, ar (D.x + 1)), (1, ai x1)] [] := by
    intro c43
    have h := h.2 c43
    exact zv_pick [0] rfl (cpT_readFunction_233 G M S hk h)
  refine zv_if_ne (tgt := 233) G (hw.i 7 (by decide)) (by decide) dX1_readFunction_213 (fun c44 => ?_) (fun c44 => ?_)
  · exact kf42 (fun q => c44 q.1)
  · refine zv_aload_n G rfl rfl dX1_readFunction_216 ?_
    refine zv_bipush (a := 125) G (by decide) dX1_readFunction_217 ?_
    refine zt_callI (as := [ai 125]) G M (S 18 _ rfl _ _ _ (fu_isSign (by omega)) (zoks_cons (zr_k 125 (by decide) (by decide)) zoks_nil)) q2636 q2638 qs79 q2639 md_isSign rfl (by decide) (Nat.le_of_ble_eq_true rfl) dX1_readFunction_219 (fun v37 u38 _ q => ?_)
    obtain ⟨ev37, eu38⟩ := q
    rw [eu38, ev37]
    refine zv_if_ne (tgt := 233) G (fr_isSign hw (zr_k 125 (by decide) (by decide))) (by decide) dX1_readFunction_222 (fun c45 => ?_) (fun c45 => ?_)
    · exact kf42 (fun q => c45 q.2)
    · exact kt41 ⟨c44, c45⟩
set_option maxHeartbeats 4000000 in
set_option maxRecDepth 100000 in
theorem cpT_readFunction_197 {Γ : ZG TW} {D : TD} {B0 d : Nat} {lim : Nat × Nat} (G : ZOk Γ cX1_readFunction RX1 4 (KnT D B0) (ZT D B0)) (M : ZRm Γ (d + 1) lim none "readFunction" []) (S : SdT d D B0 Γ.l lim) (hk : 1 ≤ d) {x1 : Int} {w : TW} (rx1 : zr x1) (h : pT_readFunction_197 (wpT d) (fun w => Γ.Q (.inl none) w) x1 w) : ZV Γ w 197 [(0, ar (D.x + 1)), (1, ai x1)] [] := by
  refine zt_tok G (fun hw => ?_)
  refine zv_aload_n G rfl rfl dX1_readFunction_197 ?_
  refine zv_bipush (a := 41) G (by decide) dX1_readFunction_198 ?_
  refine zt_callV (as := [ai 41]) G M (S 20 _ rfl _ _ _ h (zoks_cons (zr_k 41 (by decide) (by decide)) zoks_nil)) q2646 q2648 qs81 q2649 md_must rfl (by decide) (Nat.le_of_ble_eq_true rfl) dX1_readFunction_200 (fun u33 h => ?_)
  refine zt_tok G (fun hu33 => ?_)
  refine zv_aload_n G rfl rfl dX1_readFunction_203 ?_
  refine zv_bipush (a := 123) G (by decide) dX1_readFunction_204 ?_
  refine zt_callV (as := [ai 123]) G M (S 20 _ rfl _ _ _ h (zoks_cons (zr_k 123 (by decide) (by decide)) zoks_nil)) q2646 q2648 qs81 q2649 md_must rfl (by decide) (Nat.le_of_ble_eq_true rfl) dX1_readFunction_206 (fun u34 h => ?_)
  refine zt_tok G (fun hu34 => ?_)
  exact zv_pick [0, 1] rfl (cpT_readFunction_209 G M S hk rx1 h)
set_option maxHeartbeats 4000000 in
set_option maxRecDepth 100000 in
theorem cpT_readFunction_123 {Γ : ZG TW} {D : TD} {B0 d : Nat} {lim : Nat × Nat} (G : ZOk Γ cX1_readFunction RX1 4 (KnT D B0) (ZT D B0)) (M : ZRm Γ (d + 1) lim none "readFunction" []) (S : SdT d D B0 Γ.l lim) (hk : 1 ≤ d) {x1 : Int} {x2 : Int} {w : TW} (rx1 : zr x1) (rx2 : zr x2) (h : pT_readFunction_123 (wpT d) (fun w => Γ.Q (.inl none) w) x1 x2 w) : ZV Γ w 123 [(0, ar (D.x + 1)), (1, ai x1), (2, ai x2)] [] := by
  refine h (fun x2 w => zr x2 → ZV Γ w 123 [(0, ar (D.x + 1)), (1, ai x1), (2, ai x2)] []) ?_ rx2
  clear h
  intro x2 w h rx2
  have hI123 : ∀ (x2 : Int) (w : TW), (fun x2 w => zr x2 → ZV Γ w 123 [(0, ar (D.x + 1)), (1, ai x1), (2, ai x2)] []) x2 w → zr x2 → ZV Γ w 123 [(0, ar (D.x + 1)), (1, ai x1), (2, ai x2)] [] := fun _ _ z => z
  refine zt_tok G (fun hw => ?_)
  refine zv_iload_n G rfl rfl dX1_readFunction_123 ?_
  have kt46 : ¬ (x2 = 0) ∧ ((tI w 7) = 0) → ZV Γ w 134 [(0, ar (D.x + 1)), (1, ai x1), (2, ai x2)] [] := by
    intro c48
    have h := h.1 c48
    refine zv_aload_n G rfl rfl dX1_readFunction_134 ?_
    refine zv_aload_n G rfl rfl dX1_readFunction_135 ?_
    refine zt_get (k := 43) (v := ar (D.ad 43 + 1)) G (by decide) q2198 rfl dX1_readFunction_136 ?_
    refine zv_iload_n G rfl rfl dX1_readFunction_139 ?_
    have o18 := h.1
    have h := h.2
    refine zt_iald (f := 43) G (by decide) rfl rx1 o18.1 o18.2 dX1_readFunction_140 ?_
    refine zv_iconst (a := 3) G (by decide) dX1_readFunction_141 ?_
    have kj31 : ∀ v19 : Int, v19 = (if (tA w 43 x1) = 3 then 1 else 0) → ZV Γ w 150 [(0, ar (D.x + 1)), (1, ai x1), (2, ai x2)] (ai v19 :: ar (D.x + 1) :: []) := by
      intro v19 ev19
      have h := h v19 ev19
      have rv19 : zr v19 := by rw [ev19]; exact (zr_ite (zr_k 1 (by decide) (by decide)) (zr_k 0 (by decide) (by decide)))
      have bv19 : v19 = 0 ∨ v19 = 1 := by rw [ev19]; exact (zb_ite (Or.inr rfl) (Or.inl rfl))
      refine zt_callI (as := [ai v19]) G M (S 19 _ rfl _ _ _ h (zoks_cons rv19 zoks_nil)) q2640 q2642 qs80 q2643 md_readSort rfl (by decide) (Nat.le_of_ble_eq_true rfl) dX1_readFunction_150 (fun v21 u20 rv21 h => ?_)
      refine zt_tok G (fun hu20 => ?_)
      refine zv_istore_n G rfl (by decide) rfl dX1_readFunction_153 ?_
      refine zv_aload_n G rfl rfl dX1_readFunction_154 ?_
      refine zt_get (k := 7) (v := ai (tI u20 7)) G (by decide) q2162 rfl dX1_readFunction_155 ?_
      refine zv_if_ne (tgt := 187) G (hu20.i 7 (by decide)) (by decide) dX1_readFunction_158 (fun c22 => ?_) (fun c22 => ?_)
      · have h := h.2 c22
        exact zv_pick [0, 1] rfl (cpT_readFunction_187 G M S hk hI123 rx1 h)
      · have h := h.1 c22
        refine zv_aload_n G rfl rfl dX1_readFunction_161 ?_
        refine zt_get (k := 44) (v := ar (D.ad 44 + 1)) G (by decide) q2199 rfl dX1_readFunction_162 ?_
        refine zv_iconst (a := 3) G (by decide) dX1_readFunction_165 ?_
        refine zv_iload_n G rfl rfl dX1_readFunction_166 ?_
        refine zv_imul G dX1_readFunction_167 ?_
        refine zv_aload_n G rfl rfl dX1_readFunction_168 ?_
        refine zt_get (k := 43) (v := ar (D.ad 43 + 1)) G (by decide) q2198 rfl dX1_readFunction_169 ?_
        refine zv_iload_n G rfl rfl dX1_readFunction_172 ?_
        have o25 := h.1
        have h := h.2
        refine zt_iald (f := 43) G (by decide) rfl rx1 o25.1 o25.2 dX1_readFunction_173 ?_
        refine zv_iadd G dX1_readFunction_174 ?_
        refine zv_iload_n G rfl rfl dX1_readFunction_175 ?_
        have o27 := h.1
        have h := h.2
        refine zt_iast (f := 44) G (by decide) rfl (w32_r _) rv21 o27.1 o27.2 dX1_readFunction_176 (fun u26 eu26 => ?_)
        have h := h u26 eu26
        refine zt_tok G (fun hu26 => ?_)
        refine zv_aload_n G rfl rfl dX1_readFunction_177 ?_
        refine zt_get (k := 43) (v := ar (D.ad 43 + 1)) G (by decide) q2198 rfl dX1_readFunction_178 ?_
        refine zv_iload_n G rfl rfl dX1_readFunction_181 ?_
        refine zv_dup2_11 G rfl rfl dX1_readFunction_182 ?_
        have o28 := h.1
        have h := h.2
        refine zt_iald (f := 43) G (by decide) rfl rx1 o28.1 o28.2 dX1_readFunction_183 ?_
        refine zv_iconst (a := 1) G (by decide) dX1_readFunction_184 ?_
        refine zv_iadd G dX1_readFunction_185 ?_
        have o30 := h.1
        have h := h.2
        refine zt_iast (f := 43) G (by decide) rfl rx1 (w32_r _) o30.1 o30.2 dX1_readFunction_186 (fun u29 eu29 => ?_)
        have h := h u29 eu29
        refine zt_tok G (fun hu29 => ?_)
        exact zv_pick [0, 1] rfl (cpT_readFunction_187 G M S hk hI123 rx1 h)
    refine zv_icmp_ne (tgt := 149) G (hw.a 43 _ (by decide)) (zr_k 3 (by decide) (by decide)) (by decide) dX1_readFunction_142 (fun c32 => ?_) (fun c32 => ?_)
    · refine zv_iconst (a := 0) G (by decide) dX1_readFunction_149 ?_
      exact kj31 _ (if_neg c32).symm
    · refine zv_iconst (a := 1) G (by decide) dX1_readFunction_145 ?_
      refine zv_goto (tgt := 150) G (by decide) dX1_readFunction_146 ?_
      exact kj31 _ (if_pos c32).symm
  have kf47 : ¬ (¬ (x2 = 0) ∧ ((tI w 7) = 0)) → ZV Γ w 197 [(0, ar (D.x + 1)), (1, ai x1), (2, ai x2)] [] := by
    intro c48
    have h := h.2 c48
    exact zv_pick [0, 1] rfl (cpT_readFunction_197 G M S hk rx1 h)
  refine zv_if_eq (tgt := 197) G rx2 (by decide) dX1_readFunction_124 (fun c49 => ?_) (fun c49 => ?_)
  · exact kf47 (fun q => q.1 c49)
  · refine zv_aload_n G rfl rfl dX1_readFunction_127 ?_
    refine zt_get (k := 7) (v := ai (tI w 7)) G (by decide) q2162 rfl dX1_readFunction_128 ?_
    refine zv_if_ne (tgt := 197) G (hw.i 7 (by decide)) (by decide) dX1_readFunction_131 (fun c50 => ?_) (fun c50 => ?_)
    · exact kf47 (fun q => c50 q.2)
    · exact kt46 ⟨c49, c50⟩
set_option maxHeartbeats 4000000 in
set_option maxRecDepth 100000 in
theorem cpT_readFunction_64 {Γ : ZG TW} {D : TD} {B0 d : Nat} {lim : Nat × Nat} (G : ZOk Γ cX1_readFunction RX1 4 (KnT D B0) (ZT D B0)) (M : ZRm Γ (d + 1) lim none "readFunction" []) (S : SdT d D B0 Γ.l lim) (hk : 1 ≤ d) {w : TW} (h : pT_readFunction_64 (wpT d) (fun w => Γ.Q (.inl none) w) w) : ZV Γ w 64 [(0, ar (D.x + 1))] [] := by
  refine zt_tok G (fun hw => ?_)
  refine zv_aload_n G rfl rfl dX1_readFunction_64 ?_
  refine zt_get (k := 7) (v := ai (tI w 7)) G (by decide) q2162 rfl dX1_readFunction_65 ?_
  refine zv_if_eq (tgt := 72) G (hw.i 7 (by decide)) (by decide) dX1_readFunction_68 (fun c7 => ?_) (fun c7 => ?_)
  · have h := h.1 c7
    refine zv_aload_n G rfl rfl dX1_readFunction_72 ?_
    refine zt_get (k := 41) (v := ai (tI w 41)) G (by decide) q2196 rfl dX1_readFunction_73 ?_
    refine zv_istore_nN G rfl (by decide) dX1_readFunction_76 (fun x1_8 ex1_8 => ?_)
    have h := h x1_8 ex1_8
    have rx1_8 : zr x1_8 := by rw [ex1_8]; exact (hw.i 41 (by decide))
    refine zv_aload_n G rfl rfl dX1_readFunction_77 ?_
    refine zv_dup G rfl dX1_readFunction_78 ?_
    refine zt_get (k := 41) (v := ai (tI w 41)) G (by decide) q2196 rfl dX1_readFunction_79 ?_
    refine zv_iconst (a := 1) G (by decide) dX1_readFunction_82 ?_
    refine zv_iadd G dX1_readFunction_83 ?_
    refine zt_putI (k := 41) G (by decide) q2196 rfl (tyX1_ok 41 (by decide)) rfl (w32_r _) dX1_readFunction_84 (fun u9 eu9 => ?_)
    have h := h u9 eu9
    refine zt_tok G (fun hu9 => ?_)
    refine zv_aload_n G rfl rfl dX1_readFunction_87 ?_
    refine zt_get (k := 42) (v := ar (D.ad 42 + 1)) G (by decide) q2197 rfl dX1_readFunction_88 ?_
    refine zv_iload_n G rfl rfl dX1_readFunction_91 ?_
    refine zv_aload_n G rfl rfl dX1_readFunction_92 ?_
    refine zt_get (k := 4) (v := al (tI u9 4)) G (by decide) q2159 rfl dX1_readFunction_93 ?_
    have o11 := h.1
    have h := h.2
    refine zt_last (f := 42) G (by decide) rfl rx1_8 (hu9.l 4 (by decide)) o11.1 o11.2 dX1_readFunction_96 (fun u10 eu10 => ?_)
    have h := h u10 eu10
    refine zt_tok G (fun hu10 => ?_)
    refine zv_aload_n G rfl rfl dX1_readFunction_97 ?_
    refine zt_get (k := 43) (v := ar (D.ad 43 + 1)) G (by decide) q2198 rfl dX1_readFunction_98 ?_
    refine zv_iload_n G rfl rfl dX1_readFunction_101 ?_
    refine zv_iconst (a := 0) G (by decide) dX1_readFunction_102 ?_
    have o13 := h.1
    have h := h.2
    refine zt_iast (f := 43) G (by decide) rfl rx1_8 (zr_k 0 (by decide) (by decide)) o13.1 o13.2 dX1_readFunction_103 (fun u12 eu12 => ?_)
    have h := h u12 eu12
    refine zt_tok G (fun hu12 => ?_)
    refine zv_aload_n G rfl rfl dX1_readFunction_104 ?_
    refine zt_get (k := 45) (v := ar (D.ad 45 + 1)) G (by decide) q2200 rfl dX1_readFunction_105 ?_
    refine zv_iload_n G rfl rfl dX1_readFunction_108 ?_
    refine zv_iconst (a := 0) G (by decide) dX1_readFunction_109 ?_
    have o15 := h.1
    have h := h.2
    refine zt_iast (f := 45) G (by decide) rfl rx1_8 (zr_k 0 (by decide) (by decide)) o15.1 o15.2 dX1_readFunction_110 (fun u14 eu14 => ?_)
    have h := h u14 eu14
    refine zt_tok G (fun hu14 => ?_)
    refine zv_aload_n G rfl rfl dX1_readFunction_111 ?_
    refine zt_callV (as := []) G M (S 4 _ rfl _ _ _ h zoks_nil) q2564 q2566 qs68 q2567 md_next rfl (by decide) (Nat.le_of_ble_eq_true rfl) dX1_readFunction_112 (fun u16 h => ?_)
    refine zt_tok G (fun hu16 => ?_)
    refine zv_aload_n G rfl rfl dX1_readFunction_115 ?_
    refine zv_bipush (a := 40) G (by decide) dX1_readFunction_116 ?_
    refine zt_callV (as := [ai 40]) G M (S 20 _ rfl _ _ _ h (zoks_cons (zr_k 40 (by decide) (by decide)) zoks_nil)) q2646 q2648 qs81 q2649 md_must rfl (by decide) (Nat.le_of_ble_eq_true rfl) dX1_readFunction_118 (fun u17 h => ?_)
    refine zt_tok G (fun hu17 => ?_)
    refine zv_iconst (a := 1) G (by decide) dX1_readFunction_121 ?_
    refine zv_istore_n G rfl (by decide) rfl dX1_readFunction_122 ?_
    exact zv_pick [0, 1, 2] rfl (cpT_readFunction_123 G M S hk rx1_8 (zr_k 1 (by decide) (by decide)) h)
  · have h := h.2 c7
    exact zv_vret G M dX1_readFunction_71 h
set_option maxHeartbeats 4000000 in
set_option maxRecDepth 100000 in
theorem cpT_readFunction_0 {Γ : ZG TW} {D : TD} {B0 d : Nat} {lim : Nat × Nat} (G : ZOk Γ cX1_readFunction RX1 4 (KnT D B0) (ZT D B0)) (M : ZRm Γ (d + 1) lim none "readFunction" []) (S : SdT d D B0 Γ.l lim) (hk : 1 ≤ d) {w : TW} (h : pT_readFunction_0 (wpT d) (fun w => Γ.Q (.inl none) w) w) : ZV Γ w 0 [(0, ar (D.x + 1))] [] := by
  refine zt_tok G (fun hw => ?_)
  refine zv_aload_n G rfl rfl dX1_readFunction_0 ?_
  refine zt_callV (as := []) G M (S 4 _ rfl _ _ _ h zoks_nil) q2564 q2566 qs68 q2567 md_next rfl (by decide) (Nat.le_of_ble_eq_true rfl) dX1_readFunction_1 (fun u1 h => ?_)
  refine zt_tok G (fun hu1 => ?_)
  refine zv_aload_n G rfl rfl dX1_readFunction_4 ?_
  refine zt_get (k := 3) (v := ai (tI u1 3)) G (by decide) q2158 rfl dX1_readFunction_5 ?_
  refine zv_iconst (a := 1) G (by decide) dX1_readFunction_8 ?_
  refine zv_icmp_eq (tgt := 20) G (hu1.i 3 (by decide)) (zr_k 1 (by decide) (by decide)) (by decide) dX1_readFunction_9 (fun c2 => ?_) (fun c2 => ?_)
  · have h := h.1 c2
    refine zv_aload_n G rfl rfl dX1_readFunction_20 ?_
    refine zv_aload_n G rfl rfl dX1_readFunction_21 ?_
    refine zt_get (k := 4) (v := al (tI u1 4)) G (by decide) q2159 rfl dX1_readFunction_22 ?_
    refine zt_callI (as := [al (tI u1 4)]) G M (S 22 _ rfl _ _ _ h (zoks_cons (hu1.l 4 (by decide)) zoks_nil)) q2654 q2656 qs83 q2657 md_functionOf rfl (by decide) (Nat.le_of_ble_eq_true rfl) dX1_readFunction_25 (fun v4 u3 rv4 h => ?_)
    refine zt_tok G (fun hu3 => ?_)
    refine zv_bipush (a := (-4)) G (by decide) dX1_readFunction_28 ?_
    refine zv_icmp_eq (tgt := 45) G rv4 (zr_k (-4) (by decide) (by decide)) (by decide) dX1_readFunction_30 (fun c5 => ?_) (fun c5 => ?_)
    · have h := h.1 c5
      refine zv_aload_n G rfl rfl dX1_readFunction_45 ?_
      refine zt_get (k := 41) (v := ai (tI u3 41)) G (by decide) q2196 rfl dX1_readFunction_46 ?_
      refine zv_bipush (a := 12) G (by decide) dX1_readFunction_49 ?_
      refine zv_icmp_ne (tgt := 64) G (hu3.i 41 (by decide)) (zr_k 12 (by decide) (by decide)) (by decide) dX1_readFunction_51 (fun c6 => ?_) (fun c6 => ?_)
      · have h := h.2 c6
        exact zv_pick [0] rfl (cpT_readFunction_64 G M S hk h)
      · have h := h.1 c6
        refine zv_aload_n G rfl rfl dX1_readFunction_54 ?_
        refine zv_bipush (a := 9) G (by decide) dX1_readFunction_55 ?_
        refine zv_aload_n G rfl rfl dX1_readFunction_57 ?_
        refine zt_get (k := 5) (v := ai (tI u3 5)) G (by decide) q2160 rfl dX1_readFunction_58 ?_
        refine zt_callV (as := [ai 9, ai (tI u3 5)]) G M (S 13 _ rfl _ _ _ h (zoks_cons (zr_k 9 (by decide) (by decide)) (zoks_cons (hu3.i 5 (by decide)) zoks_nil))) q2616 q2618 qs74 q2619 md_fails rfl (by decide) (Nat.le_of_ble_eq_true rfl) dX1_readFunction_61 (fun u51 h => ?_)
        refine zt_tok G (fun hu51 => ?_)
        exact zv_pick [0] rfl (cpT_readFunction_64 G M S hk h)
    · have h := h.2 c5
      refine zv_aload_n G rfl rfl dX1_readFunction_33 ?_
      refine zv_iconst (a := 3) G (by decide) dX1_readFunction_34 ?_
      refine zv_aload_n G rfl rfl dX1_readFunction_35 ?_
      refine zt_get (k := 5) (v := ai (tI u3 5)) G (by decide) q2160 rfl dX1_readFunction_36 ?_
      refine zt_callV (as := [ai 3, ai (tI u3 5)]) G M (S 13 _ rfl _ _ _ h (zoks_cons (zr_k 3 (by decide) (by decide)) (zoks_cons (hu3.i 5 (by decide)) zoks_nil))) q2616 q2618 qs74 q2619 md_fails rfl (by decide) (Nat.le_of_ble_eq_true rfl) dX1_readFunction_39 (fun u52 h => ?_)
      refine zt_tok G (fun hu52 => ?_)
      refine zv_goto (tgt := 64) G (by decide) dX1_readFunction_42 ?_
      exact zv_pick [0] rfl (cpT_readFunction_64 G M S hk h)
  · have h := h.2 c2
    refine zv_aload_n G rfl rfl dX1_readFunction_12 ?_
    refine zv_iconst (a := 2) G (by decide) dX1_readFunction_13 ?_
    refine zt_callV (as := [ai 2]) G M (S 12 _ rfl _ _ _ h (zoks_cons (zr_k 2 (by decide) (by decide)) zoks_nil)) q2612 q2614 qs73 q2615 md_stop rfl (by decide) (Nat.le_of_ble_eq_true rfl) dX1_readFunction_14 (fun u53 h => ?_)
    refine zt_tok G (fun hu53 => ?_)
    refine zv_goto (tgt := 64) G (by decide) dX1_readFunction_17 ?_
    exact zv_pick [0] rfl (cpT_readFunction_64 G M S hk h)
set_option maxHeartbeats 4000000 in
set_option maxRecDepth 100000 in
theorem cpT_judgeAnswer_177 {Γ : ZG TW} {D : TD} {B0 d : Nat} {lim : Nat × Nat} (G : ZOk Γ cX1_judgeAnswer RX1 7 (KnT D B0) (ZT D B0)) (M : ZRm Γ (d + 1) lim none "judgeAnswer" []) (S : SdT d D B0 Γ.l lim) (hk : 0 ≤ d) {I65 : Int → TW → Prop} {x1 : Int} {x2 : Int} {x3 : Int} {w : TW} (hI65 : ∀ (x3 : Int) (w : TW), I65 x3 w → zr x3 → ZV Γ w 65 [(0, ar (D.x + 1)), (1, ai x1), (2, ai x2), (3, ai x3)] []) (rx1 : zr x1) (rx2 : zr x2) (rx3 : zr x3) (h : pT_judgeAnswer_177 (wpT d) (fun w => Γ.Q (.inl none) w) I65 x1 x2 x3 w) : ZV Γ w 177 [(0, ar (D.x + 1)), (1, ai x1), (2, ai x2), (3, ai x3)] [] := by
  refine zt_tok G (fun hw => ?_)
  refine zv_iincN G rfl (by decide) dX1_judgeAnswer_177 (fun x3_18 ex3_18 => ?_)
  have h := h x3_18 ex3_18
  have rx3_18 : zr x3_18 := by rw [ex3_18]; exact w32_r _
  refine zv_goto (tgt := 65) G (by decide) dX1_judgeAnswer_180 ?_
  exact zv_pick [0, 1, 2, 3] rfl (hI65 _ _ h rx3_18)
set_option maxHeartbeats 4000000 in
set_option maxRecDepth 100000 in
theorem cpT_judgeAnswer_155 {Γ : ZG TW} {D : TD} {B0 d : Nat} {lim : Nat × Nat} (G : ZOk Γ cX1_judgeAnswer RX1 7 (KnT D B0) (ZT D B0)) (M : ZRm Γ (d + 1) lim none "judgeAnswer" []) (S : SdT d D B0 Γ.l lim) (hk : 0 ≤ d) {I65 : Int → TW → Prop} {x1 : Int} {x2 : Int} {x3 : Int} {s0 : Int} {w : TW} (hI65 : ∀ (x3 : Int) (w : TW), I65 x3 w → zr x3 → ZV Γ w 65 [(0, ar (D.x + 1)), (1, ai x1), (2, ai x2), (3, ai x3)] []) (rx1 : zr x1) (rx2 : zr x2) (rx3 : zr x3) (rs0 : zr s0) (h : pT_judgeAnswer_155 (wpT d) (fun w => Γ.Q (.inl none) w) I65 x1 x2 x3 s0 w) : ZV Γ w 155 [(0, ar (D.x + 1)), (1, ai x1), (2, ai x2), (3, ai x3)] [ai s0] := by
  refine zt_tok G (fun hw => ?_)
  refine zv_istore G (by decide) rfl dX1_judgeAnswer_155 ?_
  refine zv_iload G rfl dX1_judgeAnswer_157 ?_
  refine zv_if_ne (tgt := 177) G rs0 (by decide) dX1_judgeAnswer_159 (fun c17 => ?_) (fun c17 => ?_)
  · have h := h.2 c17
    exact zv_pick [0, 1, 2, 3] rfl (cpT_judgeAnswer_177 G M S hk hI65 rx1 rx2 rx3 h)
  · have h := h.1 c17
    refine zv_aload_n G rfl rfl dX1_judgeAnswer_162 ?_
    refine zv_iconst (a := 5) G (by decide) dX1_judgeAnswer_163 ?_
    refine zv_aload_n G rfl rfl dX1_judgeAnswer_164 ?_
    refine zt_get (k := 60) (v := ar (D.ad 60 + 1)) G (by decide) q2215 rfl dX1_judgeAnswer_165 ?_
    refine zv_iconst (a := 3) G (by decide) dX1_judgeAnswer_168 ?_
    refine zv_iload_n G rfl rfl dX1_judgeAnswer_169 ?_
    refine zv_imul G dX1_judgeAnswer_170 ?_
    refine zv_iload_n G rfl rfl dX1_judgeAnswer_171 ?_
    refine zv_iadd G dX1_judgeAnswer_172 ?_
    have o19 := h.1
    have h := h.2
    refine zt_iald (f := 60) G (by decide) rfl (w32_r _) o19.1 o19.2 dX1_judgeAnswer_173 ?_
    refine zt_callV (as := [ai 5, ai (tA w 60 (w32 ((w32 (3 * x1)) + x3)))]) G M (S 13 _ rfl _ _ _ h (zoks_cons (zr_k 5 (by decide) (by decide)) (zoks_cons (hw.a 60 _ (by decide)) zoks_nil))) q2616 q2618 qs74 q2619 md_fails rfl (by decide) (Nat.le_of_ble_eq_true rfl) dX1_judgeAnswer_174 (fun u20 h => ?_)
    refine zt_tok G (fun hu20 => ?_)
    exact zv_pick [0, 1, 2, 3] rfl (cpT_judgeAnswer_177 G M S hk hI65 rx1 rx2 rx3 h)
set_option maxHeartbeats 4000000 in
set_option maxRecDepth 100000 in
theorem cpT_judgeAnswer_150 {Γ : ZG TW} {D : TD} {B0 d : Nat} {lim : Nat × Nat} (G : ZOk Γ cX1_judgeAnswer RX1 7 (KnT D B0) (ZT D B0)) (M : ZRm Γ (d + 1) lim none "judgeAnswer" []) (S : SdT d D B0 Γ.l lim) (hk : 0 ≤ d) {I65 : Int → TW → Prop} {x1 : Int} {x2 : Int} {x3 : Int} {w : TW} (hI65 : ∀ (x3 : Int) (w : TW), I65 x3 w → zr x3 → ZV Γ w 65 [(0, ar (D.x + 1)), (1, ai x1), (2, ai x2), (3, ai x3)] []) (rx1 : zr x1) (rx2 : zr x2) (rx3 : zr x3) (h : pT_judgeAnswer_150 (wpT d) (fun w => Γ.Q (.inl none) w) I65 x1 x2 x3 w) : ZV Γ w 150 [(0, ar (D.x + 1)), (1, ai x1), (2, ai x2), (3, ai x3)] [] := by
  refine zt_tok G (fun hw => ?_)
  refine zv_iconst (a := 1) G (by decide) dX1_judgeAnswer_150 ?_
  refine zv_goto (tgt := 155) G (by decide) dX1_judgeAnswer_151 ?_
  exact zv_pick [0, 1, 2, 3] rfl (cpT_judgeAnswer_155 G M S hk hI65 rx1 rx2 rx3 (zr_k 1 (by decide) (by decide)) h)
set_option maxHeartbeats 4000000 in
set_option maxRecDepth 100000 in
theorem cpT_judgeAnswer_154 {Γ : ZG TW} {D : TD} {B0 d : Nat} {lim : Nat × Nat} (G : ZOk Γ cX1_judgeAnswer RX1 7 (KnT D B0) (ZT D B0)) (M : ZRm Γ (d + 1) lim none "judgeAnswer" []) (S : SdT d D B0 Γ.l lim) (hk : 0 ≤ d) {I65 : Int → TW → Prop} {x1 : Int} {x2 : Int} {x3 : Int} {w : TW} (hI65 : ∀ (x3 : Int) (w : TW), I65 x3 w → zr x3 → ZV Γ w 65 [(0, ar (D.x + 1)), (1, ai x1), (2, ai x2), (3, ai x3)] []) (rx1 : zr x1) (rx2 : zr x2) (rx3 : zr x3) (h : pT_judgeAnswer_154 (wpT d) (fun w => Γ.Q (.inl none) w) I65 x1 x2 x3 w) : ZV Γ w 154 [(0, ar (D.x + 1)), (1, ai x1), (2, ai x2), (3, ai x3)] [] := by
  refine zt_tok G (fun hw => ?_)
  refine zv_iconst (a := 0) G (by decide) dX1_judgeAnswer_154 ?_
  exact zv_pick [0, 1, 2, 3] rfl (cpT_judgeAnswer_155 G M S hk hI65 rx1 rx2 rx3 (zr_k 0 (by decide) (by decide)) h)
set_option maxHeartbeats 4000000 in
set_option maxRecDepth 100000 in
theorem cpT_judgeAnswer_183 {Γ : ZG TW} {D : TD} {B0 d : Nat} {lim : Nat × Nat} (G : ZOk Γ cX1_judgeAnswer RX1 7 (KnT D B0) (ZT D B0)) (M : ZRm Γ (d + 1) lim none "judgeAnswer" []) (S : SdT d D B0 Γ.l lim) (hk : 0 ≤ d) {w : TW} (h : pT_judgeAnswer_183 (wpT d) (fun w => Γ.Q (.inl none) w) w) : ZV Γ w 183 [] [] := by
  refine zt_tok G (fun hw => ?_)
  exact zv_vret G M dX1_judgeAnswer_183 h
set_option maxHeartbeats 4000000 in
set_option maxRecDepth 100000 in
theorem cpT_judgeAnswer_65 {Γ : ZG TW} {D : TD} {B0 d : Nat} {lim : Nat × Nat} (G : ZOk Γ cX1_judgeAnswer RX1 7 (KnT D B0) (ZT D B0)) (M : ZRm Γ (d + 1) lim none "judgeAnswer" []) (S : SdT d D B0 Γ.l lim) (hk : 0 ≤ d) {x1 : Int} {x2 : Int} {x3 : Int} {w : TW} (rx1 : zr x1) (rx2 : zr x2) (rx3 : zr x3) (h : pT_judgeAnswer_65 (wpT d) (fun w => Γ.Q (.inl none) w) x1 x2 x3 w) : ZV Γ w 65 [(0, ar (D.x + 1)), (1, ai x1), (2, ai x2), (3, ai x3)] [] := by
  refine h (fun x3 w => zr x3 → ZV Γ w 65 [(0, ar (D.x + 1)), (1, ai x1), (2, ai x2), (3, ai x3)] []) ?_ rx3
  clear h
  intro x3 w h rx3
  have hI65 : ∀ (x3 : Int) (w : TW), (fun x3 w => zr x3 → ZV Γ w 65 [(0, ar (D.x + 1)), (1, ai x1), (2, ai x2), (3, ai x3)] []) x3 w → zr x3 → ZV Γ w 65 [(0, ar (D.x + 1)), (1, ai x1), (2, ai x2), (3, ai x3)] [] := fun _ _ z => z
  refine zt_tok G (fun hw => ?_)
  refine zv_iload_n G rfl rfl dX1_judgeAnswer_65 ?_
  refine zv_aload_n G rfl rfl dX1_judgeAnswer_66 ?_
  refine zt_get (k := 43) (v := ar (D.ad 43 + 1)) G (by decide) q2198 rfl dX1_judgeAnswer_67 ?_
  refine zv_iload_n G rfl rfl dX1_judgeAnswer_70 ?_
  have o10 := h.1
  have h := h.2
  refine zt_iald (f := 43) G (by decide) rfl rx2 o10.1 o10.2 dX1_judgeAnswer_71 ?_
  have kt29 : ¬ ((tA w 43 x2) ≤ x3) ∧ ((tI w 7) = 0) → ZV Γ w 82 [(0, ar (D.x + 1)), (1, ai x1), (2, ai x2), (3, ai x3)] [] := by
    intro c31
    have h := h.1 c31
    refine zv_aload_n G rfl rfl dX1_judgeAnswer_82 ?_
    refine zt_get (k := 30) (v := ar (D.ad 30 + 1)) G (by decide) q2185 rfl dX1_judgeAnswer_83 ?_
    refine zv_bipush (a := 8) G (by decide) dX1_judgeAnswer_86 ?_
    refine zv_iload_n G rfl rfl dX1_judgeAnswer_88 ?_
    refine zv_imul G dX1_judgeAnswer_89 ?_
    refine zv_aload_n G rfl rfl dX1_judgeAnswer_90 ?_
    refine zt_get (k := 59) (v := ar (D.ad 59 + 1)) G (by decide) q2214 rfl dX1_judgeAnswer_91 ?_
    refine zv_iconst (a := 3) G (by decide) dX1_judgeAnswer_94 ?_
    refine zv_iload_n G rfl rfl dX1_judgeAnswer_95 ?_
    refine zv_imul G dX1_judgeAnswer_96 ?_
    refine zv_iload_n G rfl rfl dX1_judgeAnswer_97 ?_
    refine zv_iadd G dX1_judgeAnswer_98 ?_
    have o11 := h.1
    have h := h.2
    refine zt_iald (f := 59) G (by decide) rfl (w32_r _) o11.1 o11.2 dX1_judgeAnswer_99 ?_
    refine zv_iadd G dX1_judgeAnswer_100 ?_
    have o12 := h.1
    have h := h.2
    refine zt_iald (f := 30) G (by decide) rfl (w32_r _) o12.1 o12.2 dX1_judgeAnswer_101 ?_
    refine zv_istoreN G (by decide) dX1_judgeAnswer_102 (fun x4_13 ex4_13 => ?_)
    have h := h x4_13 ex4_13
    have rx4_13 : zr x4_13 := by rw [ex4_13]; exact (hw.a 30 _ (by decide))
    refine zv_aload_n G rfl rfl dX1_judgeAnswer_104 ?_
    refine zt_get (k := 44) (v := ar (D.ad 44 + 1)) G (by decide) q2199 rfl dX1_judgeAnswer_105 ?_
    refine zv_iconst (a := 3) G (by decide) dX1_judgeAnswer_108 ?_
    refine zv_iload_n G rfl rfl dX1_judgeAnswer_109 ?_
    refine zv_imul G dX1_judgeAnswer_110 ?_
    refine zv_iload_n G rfl rfl dX1_judgeAnswer_111 ?_
    refine zv_iadd G dX1_judgeAnswer_112 ?_
    have o14 := h.1
    have h := h.2
    refine zt_iald (f := 44) G (by decide) rfl (w32_r _) o14.1 o14.2 dX1_judgeAnswer_113 ?_
    refine zv_istoreN G (by decide) dX1_judgeAnswer_114 (fun x5_15 ex5_15 => ?_)
    have h := h x5_15 ex5_15
    have rx5_15 : zr x5_15 := by rw [ex5_15]; exact (hw.a 44 _ (by decide))
    refine zv_iload G rfl dX1_judgeAnswer_116 ?_
    refine zv_iload G rfl dX1_judgeAnswer_118 ?_
    refine zv_icmp_eq (tgt := 150) G rx4_13 rx5_15 (by decide) dX1_judgeAnswer_120 (fun c16 => ?_) (fun c16 => ?_)
    · have h := h.1 c16
      exact zv_pick [0, 1, 2, 3] rfl (cpT_judgeAnswer_150 G M S hk hI65 rx1 rx2 rx3 h)
    · have h := h.2 c16
      refine zv_iload G rfl dX1_judgeAnswer_123 ?_
      refine zv_iconst (a := 3) G (by decide) dX1_judgeAnswer_125 ?_
      have kt24 : ¬ (x4_13 < 3) ∧ (¬ (x5_15 < 3)) → ZV Γ w 135 [(5, ai x5_15), (4, ai x4_13), (0, ar (D.x + 1)), (1, ai x1), (2, ai x2), (3, ai x3)] [] := by
        intro c26
        have h := h.1 c26
        refine zv_aload_n G rfl rfl dX1_judgeAnswer_135 ?_
        refine zv_iload G rfl dX1_judgeAnswer_136 ?_
        refine zv_iconst (a := 3) G (by decide) dX1_judgeAnswer_138 ?_
        refine zv_isub G dX1_judgeAnswer_139 ?_
        refine zv_iload G rfl dX1_judgeAnswer_140 ?_
        refine zv_iconst (a := 3) G (by decide) dX1_judgeAnswer_142 ?_
        refine zv_isub G dX1_judgeAnswer_143 ?_
        refine zt_callI (as := [ai (w32 (x4_13 - 3)), ai (w32 (x5_15 - 3))]) G M (S 26 _ rfl _ _ _ h (zoks_cons (w32_r _) (zoks_cons (w32_r _) zoks_nil))) q2670 q2672 qs87 q2673 md_isOf rfl (by decide) (Nat.le_of_ble_eq_true rfl) dX1_judgeAnswer_144 (fun v22 u21 rv22 h => ?_)
        refine zt_tok G (fun hu21 => ?_)
        refine zv_if_eq (tgt := 154) G rv22 (by decide) dX1_judgeAnswer_147 (fun c23 => ?_) (fun c23 => ?_)
        · have h := h.1 c23
          exact zv_pick [0, 1, 2, 3] rfl (cpT_judgeAnswer_154 G M S hk hI65 rx1 rx2 rx3 h)
        · have h := h.2 c23
          exact zv_pick [0, 1, 2, 3] rfl (cpT_judgeAnswer_150 G M S hk hI65 rx1 rx2 rx3 h)
      have kf25 : ¬ (¬ (x4_13 < 3) ∧ (¬ (x5_15 < 3))) → ZV Γ w 154 [(5, ai x5_15), (4, ai x4_13), (0, ar (D.x + 1)), (1, ai x1), (2, ai x2), (3, ai x3)] [] := by
        intro c26
        have h := h.2 c26
        exact zv_pick [0, 1, 2, 3] rfl (cpT_judgeAnswer_154 G M S hk hI65 rx1 rx2 rx3 h)
      refine zv_icmp_lt (tgt := 154) G rx4_13 (zr_k 3 (by decide) (by decide)) (by decide) dX1_judgeAnswer_126 (fun c27 => ?_) (fun c27 => ?_)
      · exact kf25 (fun q => q.1 c27)
      · refine zv_iload G rfl dX1_judgeAnswer_129 ?_
        refine zv_iconst (a := 3) G (by decide) dX1_judgeAnswer_131 ?_
        refine zv_icmp_lt (tgt := 154) G rx5_15 (zr_k 3 (by decide) (by decide)) (by decide) dX1_judgeAnswer_132 (fun c28 => ?_) (fun c28 => ?_)
        · exact kf25 (fun q => (fun q => q c28) q.2)
        · exact kt24 ⟨c27, c28⟩
  have kf30 : ¬ (¬ ((tA w 43 x2) ≤ x3) ∧ ((tI w 7) = 0)) → ZV Γ w 183 [(0, ar (D.x + 1)), (1, ai x1), (2, ai x2), (3, ai x3)] [] := by
    intro c31
    have h := h.2 c31
    exact zv_pick [] rfl (cpT_judgeAnswer_183 G M S hk h)
  refine zv_icmp_ge (tgt := 183) G rx3 (hw.a 43 _ (by decide)) (by decide) dX1_judgeAnswer_72 (fun c32 => ?_) (fun c32 => ?_)
  · exact kf30 (fun q => q.1 c32)
  · refine zv_aload_n G rfl rfl dX1_judgeAnswer_75 ?_
    refine zt_get (k := 7) (v := ai (tI w 7)) G (by decide) q2162 rfl dX1_judgeAnswer_76 ?_
    refine zv_if_ne (tgt := 183) G (hw.i 7 (by decide)) (by decide) dX1_judgeAnswer_79 (fun c33 => ?_) (fun c33 => ?_)
    · exact kf30 (fun q => c33 q.2)
    · exact kt29 ⟨c32, c33⟩
set_option maxHeartbeats 4000000 in
set_option maxRecDepth 100000 in
theorem cpT_judgeAnswer_63 {Γ : ZG TW} {D : TD} {B0 d : Nat} {lim : Nat × Nat} (G : ZOk Γ cX1_judgeAnswer RX1 7 (KnT D B0) (ZT D B0)) (M : ZRm Γ (d + 1) lim none "judgeAnswer" []) (S : SdT d D B0 Γ.l lim) (hk : 0 ≤ d) {x1 : Int} {x2 : Int} {w : TW} (rx1 : zr x1) (rx2 : zr x2) (h : pT_judgeAnswer_63 (wpT d) (fun w => Γ.Q (.inl none) w) x1 x2 w) : ZV Γ w 63 [(0, ar (D.x + 1)), (1, ai x1), (2, ai x2)] [] := by
  refine zt_tok G (fun hw => ?_)
  refine zv_iconst (a := 0) G (by decide) dX1_judgeAnswer_63 ?_
  refine zv_istore_n G rfl (by decide) rfl dX1_judgeAnswer_64 ?_
  exact zv_pick [0, 1, 2, 3] rfl (cpT_judgeAnswer_65 G M S hk rx1 rx2 (zr_k 0 (by decide) (by decide)) h)
set_option maxHeartbeats 4000000 in
set_option maxRecDepth 100000 in
theorem cpT_judgeAnswer_0 {Γ : ZG TW} {D : TD} {B0 d : Nat} {lim : Nat × Nat} (G : ZOk Γ cX1_judgeAnswer RX1 7 (KnT D B0) (ZT D B0)) (M : ZRm Γ (d + 1) lim none "judgeAnswer" []) (S : SdT d D B0 Γ.l lim) (hk : 0 ≤ d) {x1 : Int} {w : TW} (rx1 : zr x1) (h : pT_judgeAnswer_0 (wpT d) (fun w => Γ.Q (.inl none) w) x1 w) : ZV Γ w 0 [(0, ar (D.x + 1)), (1, ai x1)] [] := by
  refine zt_tok G (fun hw => ?_)
  refine zv_aload_n G rfl rfl dX1_judgeAnswer_0 ?_
  refine zv_aload_n G rfl rfl dX1_judgeAnswer_1 ?_
  refine zt_get (k := 56) (v := ar (D.ad 56 + 1)) G (by decide) q2211 rfl dX1_judgeAnswer_2 ?_
  refine zv_iload_n G rfl rfl dX1_judgeAnswer_5 ?_
  have o1 := h.1
  have h := h.2
  refine zt_lald (f := 56) G (by decide) rfl rx1 o1.1 o1.2 dX1_judgeAnswer_6 ?_
  refine zt_callI (as := [al (tA w 56 x1)]) G M (S 22 _ rfl _ _ _ h (zoks_cons (hw.al 56 _ (by decide)) zoks_nil)) q2654 q2656 qs83 q2657 md_functionOf rfl (by decide) (Nat.le_of_ble_eq_true rfl) dX1_judgeAnswer_7 (fun v3 u2 rv3 h => ?_)
  refine zt_tok G (fun hu2 => ?_)
  refine zv_istore_n G rfl (by decide) rfl dX1_judgeAnswer_10 ?_
  refine zv_iload_n G rfl rfl dX1_judgeAnswer_11 ?_
  refine zv_bipush (a := (-4)) G (by decide) dX1_judgeAnswer_12 ?_
  refine zv_icmp_ne (tgt := 29) G rv3 (zr_k (-4) (by decide) (by decide)) (by decide) dX1_judgeAnswer_14 (fun c4 => ?_) (fun c4 => ?_)
  · have h := h.2 c4
    refine zv_aload_n G rfl rfl dX1_judgeAnswer_29 ?_
    refine zt_get (k := 55) (v := ar (D.ad 55 + 1)) G (by decide) q2210 rfl dX1_judgeAnswer_30 ?_
    refine zv_iload_n G rfl rfl dX1_judgeAnswer_33 ?_
    refine zv_iload_n G rfl rfl dX1_judgeAnswer_34 ?_
    have o6 := h.1
    have h := h.2
    refine zt_iast (f := 55) G (by decide) rfl rx1 rv3 o6.1 o6.2 dX1_judgeAnswer_35 (fun u5 eu5 => ?_)
    have h := h u5 eu5
    refine zt_tok G (fun hu5 => ?_)
    refine zv_aload_n G rfl rfl dX1_judgeAnswer_36 ?_
    refine zt_get (k := 58) (v := ar (D.ad 58 + 1)) G (by decide) q2213 rfl dX1_judgeAnswer_37 ?_
    refine zv_iload_n G rfl rfl dX1_judgeAnswer_40 ?_
    have o7 := h.1
    have h := h.2
    refine zt_iald (f := 58) G (by decide) rfl rx1 o7.1 o7.2 dX1_judgeAnswer_41 ?_
    refine zv_aload_n G rfl rfl dX1_judgeAnswer_42 ?_
    refine zt_get (k := 43) (v := ar (D.ad 43 + 1)) G (by decide) q2198 rfl dX1_judgeAnswer_43 ?_
    refine zv_iload_n G rfl rfl dX1_judgeAnswer_46 ?_
    have o8 := h.1
    have h := h.2
    refine zt_iald (f := 43) G (by decide) rfl rv3 o8.1 o8.2 dX1_judgeAnswer_47 ?_
    refine zv_icmp_eq (tgt := 63) G (hu5.a 58 _ (by decide)) (hu5.a 43 _ (by decide)) (by decide) dX1_judgeAnswer_48 (fun c9 => ?_) (fun c9 => ?_)
    · have h := h.1 c9
      exact zv_pick [0, 1, 2] rfl (cpT_judgeAnswer_63 G M S hk rx1 rv3 h)
    · have h := h.2 c9
      refine zv_aload_n G rfl rfl dX1_judgeAnswer_51 ?_
      refine zv_bipush (a := 6) G (by decide) dX1_judgeAnswer_52 ?_
      refine zv_aload_n G rfl rfl dX1_judgeAnswer_54 ?_
      refine zt_get (k := 57) (v := ar (D.ad 57 + 1)) G (by decide) q2212 rfl dX1_judgeAnswer_55 ?_
      refine zv_iload_n G rfl rfl dX1_judgeAnswer_58 ?_
      have o34 := h.1
      have h := h.2
      refine zt_iald (f := 57) G (by decide) rfl rx1 o34.1 o34.2 dX1_judgeAnswer_59 ?_
      refine zt_callV (as := [ai 6, ai (tA u5 57 x1)]) G M (S 13 _ rfl _ _ _ h (zoks_cons (zr_k 6 (by decide) (by decide)) (zoks_cons (hu5.a 57 _ (by decide)) zoks_nil))) q2616 q2618 qs74 q2619 md_fails rfl (by decide) (Nat.le_of_ble_eq_true rfl) dX1_judgeAnswer_60 (fun u35 h => ?_)
      refine zt_tok G (fun hu35 => ?_)
      exact zv_pick [0, 1, 2] rfl (cpT_judgeAnswer_63 G M S hk rx1 rv3 h)
  · have h := h.1 c4
    refine zv_aload_n G rfl rfl dX1_judgeAnswer_17 ?_
    refine zv_iconst (a := 4) G (by decide) dX1_judgeAnswer_18 ?_
    refine zv_aload_n G rfl rfl dX1_judgeAnswer_19 ?_
    refine zt_get (k := 57) (v := ar (D.ad 57 + 1)) G (by decide) q2212 rfl dX1_judgeAnswer_20 ?_
    refine zv_iload_n G rfl rfl dX1_judgeAnswer_23 ?_
    have o36 := h.1
    have h := h.2
    refine zt_iald (f := 57) G (by decide) rfl rx1 o36.1 o36.2 dX1_judgeAnswer_24 ?_
    refine zt_callV (as := [ai 4, ai (tA u2 57 x1)]) G M (S 13 _ rfl _ _ _ h (zoks_cons (zr_k 4 (by decide) (by decide)) (zoks_cons (hu2.a 57 _ (by decide)) zoks_nil))) q2616 q2618 qs74 q2619 md_fails rfl (by decide) (Nat.le_of_ble_eq_true rfl) dX1_judgeAnswer_25 (fun u37 h => ?_)
    refine zt_tok G (fun hu37 => ?_)
    exact zv_vret G M dX1_judgeAnswer_28 h
set_option maxHeartbeats 4000000 in
set_option maxRecDepth 100000 in
theorem cpT_judge_162 {Γ : ZG TW} {D : TD} {B0 d : Nat} {lim : Nat × Nat} (G : ZOk Γ cX1_judge RX1 3 (KnT D B0) (ZT D B0)) (M : ZRm Γ (d + 1) lim none "judge" []) (S : SdT d D B0 Γ.l lim) (hk : 0 ≤ d) {w : TW} (h : pT_judge_162 (wpT d) (fun w => Γ.Q (.inl none) w) w) : ZV Γ w 162 [] [] := by
  refine zt_tok G (fun hw => ?_)
  exact zv_vret G M dX1_judge_162 h
set_option maxHeartbeats 4000000 in
set_option maxRecDepth 100000 in
theorem cpT_judge_150 {Γ : ZG TW} {D : TD} {B0 d : Nat} {lim : Nat × Nat} (G : ZOk Γ cX1_judge RX1 3 (KnT D B0) (ZT D B0)) (M : ZRm Γ (d + 1) lim none "judge" []) (S : SdT d D B0 Γ.l lim) (hk : 0 ≤ d) {I68 : Int → TW → Prop} {I85 : Int → TW → Prop} {x1 : Int} {x2 : Int} {w : TW} (hI68 : ∀ (x1 : Int) (w : TW), I68 x1 w → zr x1 → ZV Γ w 68 [(0, ar (D.x + 1)), (1, ai x1)] []) (hI85 : ∀ (x2 : Int) (w : TW), I85 x2 w → zr x2 → ZV Γ w 85 [(0, ar (D.x + 1)), (1, ai x1), (2, ai x2)] []) (rx1 : zr x1) (rx2 : zr x2) (h : pT_judge_150 (wpT d) (fun w => Γ.Q (.inl none) w) I68 I85 x1 x2 w) : ZV Γ w 150 [(0, ar (D.x + 1)), (1, ai x1), (2, ai x2)] [] := by
  refine zt_tok G (fun hw => ?_)
  refine zv_iincN G rfl (by decide) dX1_judge_150 (fun x2_12 ex2_12 => ?_)
  have h := h x2_12 ex2_12
  have rx2_12 : zr x2_12 := by rw [ex2_12]; exact w32_r _
  refine zv_goto (tgt := 85) G (by decide) dX1_judge_153 ?_
  exact zv_pick [0, 1, 2] rfl (hI85 _ _ h rx2_12)
set_option maxHeartbeats 4000000 in
set_option maxRecDepth 100000 in
theorem cpT_judge_156 {Γ : ZG TW} {D : TD} {B0 d : Nat} {lim : Nat × Nat} (G : ZOk Γ cX1_judge RX1 3 (KnT D B0) (ZT D B0)) (M : ZRm Γ (d + 1) lim none "judge" []) (S : SdT d D B0 Γ.l lim) (hk : 0 ≤ d) {I68 : Int → TW → Prop} {x1 : Int} {w : TW} (hI68 : ∀ (x1 : Int) (w : TW), I68 x1 w → zr x1 → ZV Γ w 68 [(0, ar (D.x + 1)), (1, ai x1)] []) (rx1 : zr x1) (h : pT_judge_156 (wpT d) (fun w => Γ.Q (.inl none) w) I68 x1 w) : ZV Γ w 156 [(0, ar (D.x + 1)), (1, ai x1)] [] := by
  refine zt_tok G (fun hw => ?_)
  refine zv_iincN G rfl (by decide) dX1_judge_156 (fun x1_15 ex1_15 => ?_)
  have h := h x1_15 ex1_15
  have rx1_15 : zr x1_15 := by rw [ex1_15]; exact w32_r _
  refine zv_goto (tgt := 68) G (by decide) dX1_judge_159 ?_
  exact zv_pick [0, 1] rfl (hI68 _ _ h rx1_15)
set_option maxHeartbeats 4000000 in
set_option maxRecDepth 100000 in
theorem cpT_judge_85 {Γ : ZG TW} {D : TD} {B0 d : Nat} {lim : Nat × Nat} (G : ZOk Γ cX1_judge RX1 3 (KnT D B0) (ZT D B0)) (M : ZRm Γ (d + 1) lim none "judge" []) (S : SdT d D B0 Γ.l lim) (hk : 0 ≤ d) {I68 : Int → TW → Prop} {x1 : Int} {x2 : Int} {w : TW} (hI68 : ∀ (x1 : Int) (w : TW), I68 x1 w → zr x1 → ZV Γ w 68 [(0, ar (D.x + 1)), (1, ai x1)] []) (rx1 : zr x1) (rx2 : zr x2) (h : pT_judge_85 (wpT d) (fun w => Γ.Q (.inl none) w) I68 x1 x2 w) : ZV Γ w 85 [(0, ar (D.x + 1)), (1, ai x1), (2, ai x2)] [] := by
  refine h (fun x2 w => zr x2 → ZV Γ w 85 [(0, ar (D.x + 1)), (1, ai x1), (2, ai x2)] []) ?_ rx2
  clear h
  intro x2 w h rx2
  have hI85 : ∀ (x2 : Int) (w : TW), (fun x2 w => zr x2 → ZV Γ w 85 [(0, ar (D.x + 1)), (1, ai x1), (2, ai x2)] []) x2 w → zr x2 → ZV Γ w 85 [(0, ar (D.x + 1)), (1, ai x1), (2, ai x2)] [] := fun _ _ z => z
  refine zt_tok G (fun hw => ?_)
  refine zv_iload_n G rfl rfl dX1_judge_85 ?_
  refine zv_aload_n G rfl rfl dX1_judge_86 ?_
  refine zt_get (k := 45) (v := ar (D.ad 45 + 1)) G (by decide) q2200 rfl dX1_judge_87 ?_
  refine zv_iload_n G rfl rfl dX1_judge_90 ?_
  have o5 := h.1
  have h := h.2
  refine zt_iald (f := 45) G (by decide) rfl rx1 o5.1 o5.2 dX1_judge_91 ?_
  have kt16 : ¬ ((tA w 45 x1) ≤ x2) ∧ ((tI w 7) = 0) → ZV Γ w 102 [(0, ar (D.x + 1)), (1, ai x1), (2, ai x2)] [] := by
    intro c18
    have h := h.1 c18
    refine zv_aload_n G rfl rfl dX1_judge_102 ?_
    refine zt_get (k := 46) (v := ar (D.ad 46 + 1)) G (by decide) q2201 rfl dX1_judge_103 ?_
    refine zv_iload_n G rfl rfl dX1_judge_106 ?_
    refine zv_dup2_11 G rfl rfl dX1_judge_107 ?_
    have o6 := h.1
    have h := h.2
    refine zt_iald (f := 46) G (by decide) rfl rx1 o6.1 o6.2 dX1_judge_108 ?_
    refine zv_aload_n G rfl rfl dX1_judge_109 ?_
    refine zt_get (k := 49) (v := ar (D.ad 49 + 1)) G (by decide) q2204 rfl dX1_judge_110 ?_
    refine zv_bipush (a := 16) G (by decide) dX1_judge_113 ?_
    refine zv_iload_n G rfl rfl dX1_judge_115 ?_
    refine zv_imul G dX1_judge_116 ?_
    refine zv_iload_n G rfl rfl dX1_judge_117 ?_
    refine zv_iadd G dX1_judge_118 ?_
    have o7 := h.1
    have h := h.2
    refine zt_iald (f := 49) G (by decide) rfl (w32_r _) o7.1 o7.2 dX1_judge_119 ?_
    refine zv_iadd G dX1_judge_120 ?_
    have o9 := h.1
    have h := h.2
    refine zt_iast (f := 46) G (by decide) rfl rx1 (w32_r _) o9.1 o9.2 dX1_judge_121 (fun u8 eu8 => ?_)
    have h := h u8 eu8
    refine zt_tok G (fun hu8 => ?_)
    refine zv_aload_n G rfl rfl dX1_judge_122 ?_
    refine zt_get (k := 46) (v := ar (D.ad 46 + 1)) G (by decide) q2201 rfl dX1_judge_123 ?_
    refine zv_iload_n G rfl rfl dX1_judge_126 ?_
    have o10 := h.1
    have h := h.2
    refine zt_iald (f := 46) G (by decide) rfl rx1 o10.1 o10.2 dX1_judge_127 ?_
    refine zv_bipush (a := 40) G (by decide) dX1_judge_128 ?_
    refine zv_icmp_le (tgt := 150) G (hu8.a 46 _ (by decide)) (zr_k 40 (by decide) (by decide)) (by decide) dX1_judge_130 (fun c11 => ?_) (fun c11 => ?_)
    · have h := h.1 c11
      exact zv_pick [0, 1, 2] rfl (cpT_judge_150 G M S hk hI68 hI85 rx1 rx2 h)
    · have h := h.2 c11
      refine zv_aload_n G rfl rfl dX1_judge_133 ?_
      refine zv_bipush (a := 9) G (by decide) dX1_judge_134 ?_
      refine zv_aload_n G rfl rfl dX1_judge_136 ?_
      refine zt_get (k := 48) (v := ar (D.ad 48 + 1)) G (by decide) q2203 rfl dX1_judge_137 ?_
      refine zv_bipush (a := 16) G (by decide) dX1_judge_140 ?_
      refine zv_iload_n G rfl rfl dX1_judge_142 ?_
      refine zv_imul G dX1_judge_143 ?_
      refine zv_iload_n G rfl rfl dX1_judge_144 ?_
      refine zv_iadd G dX1_judge_145 ?_
      have o13 := h.1
      have h := h.2
      refine zt_iald (f := 48) G (by decide) rfl (w32_r _) o13.1 o13.2 dX1_judge_146 ?_
      refine zt_callV (as := [ai 9, ai (tA u8 48 (w32 ((w32 (16 * x1)) + x2)))]) G M (S 13 _ rfl _ _ _ h (zoks_cons (zr_k 9 (by decide) (by decide)) (zoks_cons (hu8.a 48 _ (by decide)) zoks_nil))) q2616 q2618 qs74 q2619 md_fails rfl (by decide) (Nat.le_of_ble_eq_true rfl) dX1_judge_147 (fun u14 h => ?_)
      refine zt_tok G (fun hu14 => ?_)
      exact zv_pick [0, 1, 2] rfl (cpT_judge_150 G M S hk hI68 hI85 rx1 rx2 h)
  have kf17 : ¬ (¬ ((tA w 45 x1) ≤ x2) ∧ ((tI w 7) = 0)) → ZV Γ w 156 [(0, ar (D.x + 1)), (1, ai x1), (2, ai x2)] [] := by
    intro c18
    have h := h.2 c18
    exact zv_pick [0, 1] rfl (cpT_judge_156 G M S hk hI68 rx1 h)
  refine zv_icmp_ge (tgt := 156) G rx2 (hw.a 45 _ (by decide)) (by decide) dX1_judge_92 (fun c19 => ?_) (fun c19 => ?_)
  · exact kf17 (fun q => q.1 c19)
  · refine zv_aload_n G rfl rfl dX1_judge_95 ?_
    refine zt_get (k := 7) (v := ai (tI w 7)) G (by decide) q2162 rfl dX1_judge_96 ?_
    refine zv_if_ne (tgt := 156) G (hw.i 7 (by decide)) (by decide) dX1_judge_99 (fun c20 => ?_) (fun c20 => ?_)
    · exact kf17 (fun q => c20 q.2)
    · exact kt16 ⟨c19, c20⟩
set_option maxHeartbeats 4000000 in
set_option maxRecDepth 100000 in
theorem cpT_judge_68 {Γ : ZG TW} {D : TD} {B0 d : Nat} {lim : Nat × Nat} (G : ZOk Γ cX1_judge RX1 3 (KnT D B0) (ZT D B0)) (M : ZRm Γ (d + 1) lim none "judge" []) (S : SdT d D B0 Γ.l lim) (hk : 0 ≤ d) {x1 : Int} {w : TW} (rx1 : zr x1) (h : pT_judge_68 (wpT d) (fun w => Γ.Q (.inl none) w) x1 w) : ZV Γ w 68 [(0, ar (D.x + 1)), (1, ai x1)] [] := by
  refine h (fun x1 w => zr x1 → ZV Γ w 68 [(0, ar (D.x + 1)), (1, ai x1)] []) ?_ rx1
  clear h
  intro x1 w h rx1
  have hI68 : ∀ (x1 : Int) (w : TW), (fun x1 w => zr x1 → ZV Γ w 68 [(0, ar (D.x + 1)), (1, ai x1)] []) x1 w → zr x1 → ZV Γ w 68 [(0, ar (D.x + 1)), (1, ai x1)] [] := fun _ _ z => z
  refine zt_tok G (fun hw => ?_)
  refine zv_iload_n G rfl rfl dX1_judge_68 ?_
  refine zv_aload_n G rfl rfl dX1_judge_69 ?_
  refine zt_get (k := 41) (v := ai (tI w 41)) G (by decide) q2196 rfl dX1_judge_70 ?_
  refine zv_icmp_ge (tgt := 162) G rx1 (hw.i 41 (by decide)) (by decide) dX1_judge_73 (fun c2 => ?_) (fun c2 => ?_)
  · have h := h.1 c2
    exact zv_pick [] rfl (cpT_judge_162 G M S hk h)
  · have h := h.2 c2
    refine zv_aload_n G rfl rfl dX1_judge_76 ?_
    refine zt_get (k := 46) (v := ar (D.ad 46 + 1)) G (by decide) q2201 rfl dX1_judge_77 ?_
    refine zv_iload_n G rfl rfl dX1_judge_80 ?_
    refine zv_iconst (a := 0) G (by decide) dX1_judge_81 ?_
    have o4 := h.1
    have h := h.2
    refine zt_iast (f := 46) G (by decide) rfl rx1 (zr_k 0 (by decide) (by decide)) o4.1 o4.2 dX1_judge_82 (fun u3 eu3 => ?_)
    have h := h u3 eu3
    refine zt_tok G (fun hu3 => ?_)
    refine zv_iconst (a := 0) G (by decide) dX1_judge_83 ?_
    refine zv_istore_n G rfl (by decide) rfl dX1_judge_84 ?_
    exact zv_pick [0, 1, 2] rfl (cpT_judge_85 G M S hk hI68 rx1 (zr_k 0 (by decide) (by decide)) h)
set_option maxHeartbeats 4000000 in
set_option maxRecDepth 100000 in
theorem cpT_judge_66 {Γ : ZG TW} {D : TD} {B0 d : Nat} {lim : Nat × Nat} (G : ZOk Γ cX1_judge RX1 3 (KnT D B0) (ZT D B0)) (M : ZRm Γ (d + 1) lim none "judge" []) (S : SdT d D B0 Γ.l lim) (hk : 0 ≤ d) {w : TW} (h : pT_judge_66 (wpT d) (fun w => Γ.Q (.inl none) w) w) : ZV Γ w 66 [(0, ar (D.x + 1))] [] := by
  refine zt_tok G (fun hw => ?_)
  refine zv_iconst (a := 0) G (by decide) dX1_judge_66 ?_
  refine zv_istore_n G rfl (by decide) rfl dX1_judge_67 ?_
  exact zv_pick [0, 1] rfl (cpT_judge_68 G M S hk (zr_k 0 (by decide) (by decide)) h)
set_option maxHeartbeats 4000000 in
set_option maxRecDepth 100000 in
theorem cpT_judge_54 {Γ : ZG TW} {D : TD} {B0 d : Nat} {lim : Nat × Nat} (G : ZOk Γ cX1_judge RX1 3 (KnT D B0) (ZT D B0)) (M : ZRm Γ (d + 1) lim none "judge" []) (S : SdT d D B0 Γ.l lim) (hk : 0 ≤ d) {I2 : Int → TW → Prop} {I12 : Int → TW → Prop} {x1 : Int} {x2 : Int} {w : TW} (hI2 : ∀ (x1 : Int) (w : TW), I2 x1 w → zr x1 → ZV Γ w 2 [(0, ar (D.x + 1)), (1, ai x1)] []) (hI12 : ∀ (x2 : Int) (w : TW), I12 x2 w → zr x2 → ZV Γ w 12 [(0, ar (D.x + 1)), (1, ai x1), (2, ai x2)] []) (rx1 : zr x1) (rx2 : zr x2) (h : pT_judge_54 (wpT d) (fun w => Γ.Q (.inl none) w) I2 I12 x1 x2 w) : ZV Γ w 54 [(0, ar (D.x + 1)), (1, ai x1), (2, ai x2)] [] := by
  refine zt_tok G (fun hw => ?_)
  refine zv_iincN G rfl (by decide) dX1_judge_54 (fun x2_24 ex2_24 => ?_)
  have h := h x2_24 ex2_24
  have rx2_24 : zr x2_24 := by rw [ex2_24]; exact w32_r _
  refine zv_goto (tgt := 12) G (by decide) dX1_judge_57 ?_
  exact zv_pick [0, 1, 2] rfl (hI12 _ _ h rx2_24)
set_option maxHeartbeats 4000000 in
set_option maxRecDepth 100000 in
theorem cpT_judge_60 {Γ : ZG TW} {D : TD} {B0 d : Nat} {lim : Nat × Nat} (G : ZOk Γ cX1_judge RX1 3 (KnT D B0) (ZT D B0)) (M : ZRm Γ (d + 1) lim none "judge" []) (S : SdT d D B0 Γ.l lim) (hk : 0 ≤ d) {I2 : Int → TW → Prop} {x1 : Int} {w : TW} (hI2 : ∀ (x1 : Int) (w : TW), I2 x1 w → zr x1 → ZV Γ w 2 [(0, ar (D.x + 1)), (1, ai x1)] []) (rx1 : zr x1) (h : pT_judge_60 (wpT d) (fun w => Γ.Q (.inl none) w) I2 x1 w) : ZV Γ w 60 [(0, ar (D.x + 1)), (1, ai x1)] [] := by
  refine zt_tok G (fun hw => ?_)
  refine zv_iincN G rfl (by decide) dX1_judge_60 (fun x1_26 ex1_26 => ?_)
  have h := h x1_26 ex1_26
  have rx1_26 : zr x1_26 := by rw [ex1_26]; exact w32_r _
  refine zv_goto (tgt := 2) G (by decide) dX1_judge_63 ?_
  exact zv_pick [0, 1] rfl (hI2 _ _ h rx1_26)
set_option maxHeartbeats 4000000 in
set_option maxRecDepth 100000 in
theorem cpT_judge_12 {Γ : ZG TW} {D : TD} {B0 d : Nat} {lim : Nat × Nat} (G : ZOk Γ cX1_judge RX1 3 (KnT D B0) (ZT D B0)) (M : ZRm Γ (d + 1) lim none "judge" []) (S : SdT d D B0 Γ.l lim) (hk : 0 ≤ d) {I2 : Int → TW → Prop} {x1 : Int} {x2 : Int} {w : TW} (hI2 : ∀ (x1 : Int) (w : TW), I2 x1 w → zr x1 → ZV Γ w 2 [(0, ar (D.x + 1)), (1, ai x1)] []) (rx1 : zr x1) (rx2 : zr x2) (h : pT_judge_12 (wpT d) (fun w => Γ.Q (.inl none) w) I2 x1 x2 w) : ZV Γ w 12 [(0, ar (D.x + 1)), (1, ai x1), (2, ai x2)] [] := by
  refine h (fun x2 w => zr x2 → ZV Γ w 12 [(0, ar (D.x + 1)), (1, ai x1), (2, ai x2)] []) ?_ rx2
  clear h
  intro x2 w h rx2
  have hI12 : ∀ (x2 : Int) (w : TW), (fun x2 w => zr x2 → ZV Γ w 12 [(0, ar (D.x + 1)), (1, ai x1), (2, ai x2)] []) x2 w → zr x2 → ZV Γ w 12 [(0, ar (D.x + 1)), (1, ai x1), (2, ai x2)] [] := fun _ _ z => z
  refine zt_tok G (fun hw => ?_)
  refine zv_iload_n G rfl rfl dX1_judge_12 ?_
  refine zv_aload_n G rfl rfl dX1_judge_13 ?_
  refine zt_get (k := 45) (v := ar (D.ad 45 + 1)) G (by decide) q2200 rfl dX1_judge_14 ?_
  refine zv_iload_n G rfl rfl dX1_judge_17 ?_
  have o21 := h.1
  have h := h.2
  refine zt_iald (f := 45) G (by decide) rfl rx1 o21.1 o21.2 dX1_judge_18 ?_
  have kt27 : ¬ ((tA w 45 x1) ≤ x2) ∧ ((tI w 7) = 0) → ZV Γ w 29 [(0, ar (D.x + 1)), (1, ai x1), (2, ai x2)] [] := by
    intro c29
    have h := h.1 c29
    refine zv_aload_n G rfl rfl dX1_judge_29 ?_
    refine zt_get (k := 54) (v := ar (D.ad 54 + 1)) G (by decide) q2209 rfl dX1_judge_30 ?_
    refine zv_bipush (a := 16) G (by decide) dX1_judge_33 ?_
    refine zv_iload_n G rfl rfl dX1_judge_35 ?_
    refine zv_imul G dX1_judge_36 ?_
    refine zv_iload_n G rfl rfl dX1_judge_37 ?_
    refine zv_iadd G dX1_judge_38 ?_
    have o22 := h.1
    have h := h.2
    refine zt_iald (f := 54) G (by decide) rfl (w32_r _) o22.1 o22.2 dX1_judge_39 ?_
    refine zv_iconst (a := 2) G (by decide) dX1_judge_40 ?_
    refine zv_icmp_ne (tgt := 54) G (hw.a 54 _ (by decide)) (zr_k 2 (by decide) (by decide)) (by decide) dX1_judge_41 (fun c23 => ?_) (fun c23 => ?_)
    · have h := h.2 c23
      exact zv_pick [0, 1, 2] rfl (cpT_judge_54 G M S hk hI2 hI12 rx1 rx2 h)
    · have h := h.1 c23
      refine zv_aload_n G rfl rfl dX1_judge_44 ?_
      refine zv_bipush (a := 16) G (by decide) dX1_judge_45 ?_
      refine zv_iload_n G rfl rfl dX1_judge_47 ?_
      refine zv_imul G dX1_judge_48 ?_
      refine zv_iload_n G rfl rfl dX1_judge_49 ?_
      refine zv_iadd G dX1_judge_50 ?_
      refine zt_callV (as := [ai (w32 ((w32 (16 * x1)) + x2))]) G M (S 44 _ rfl _ _ _ h (zoks_cons (w32_r _) zoks_nil)) q2742 q2744 qs105 q2745 md_judgeAnswer rfl (by decide) (Nat.le_of_ble_eq_true rfl) dX1_judge_51 (fun u25 h => ?_)
      refine zt_tok G (fun hu25 => ?_)
      exact zv_pick [0, 1, 2] rfl (cpT_judge_54 G M S hk hI2 hI12 rx1 rx2 h)
  have kf28 : ¬ (¬ ((tA w 45 x1) ≤ x2) ∧ ((tI w 7) = 0)) → ZV Γ w 60 [(0, ar (D.x + 1)), (1, ai x1), (2, ai x2)] [] := by
    intro c29
    have h := h.2 c29
    exact zv_pick [0, 1] rfl (cpT_judge_60 G M S hk hI2 rx1 h)
  refine zv_icmp_ge (tgt := 60) G rx2 (hw.a 45 _ (by decide)) (by decide) dX1_judge_19 (fun c30 => ?_) (fun c30 => ?_)
  · exact kf28 (fun q => q.1 c30)
  · refine zv_aload_n G rfl rfl dX1_judge_22 ?_
    refine zt_get (k := 7) (v := ai (tI w 7)) G (by decide) q2162 rfl dX1_judge_23 ?_
    refine zv_if_ne (tgt := 60) G (hw.i 7 (by decide)) (by decide) dX1_judge_26 (fun c31 => ?_) (fun c31 => ?_)
    · exact kf28 (fun q => c31 q.2)
    · exact kt27 ⟨c30, c31⟩
set_option maxHeartbeats 4000000 in
set_option maxRecDepth 100000 in
theorem cpT_judge_2 {Γ : ZG TW} {D : TD} {B0 d : Nat} {lim : Nat × Nat} (G : ZOk Γ cX1_judge RX1 3 (KnT D B0) (ZT D B0)) (M : ZRm Γ (d + 1) lim none "judge" []) (S : SdT d D B0 Γ.l lim) (hk : 0 ≤ d) {x1 : Int} {w : TW} (rx1 : zr x1) (h : pT_judge_2 (wpT d) (fun w => Γ.Q (.inl none) w) x1 w) : ZV Γ w 2 [(0, ar (D.x + 1)), (1, ai x1)] [] := by
  refine h (fun x1 w => zr x1 → ZV Γ w 2 [(0, ar (D.x + 1)), (1, ai x1)] []) ?_ rx1
  clear h
  intro x1 w h rx1
  have hI2 : ∀ (x1 : Int) (w : TW), (fun x1 w => zr x1 → ZV Γ w 2 [(0, ar (D.x + 1)), (1, ai x1)] []) x1 w → zr x1 → ZV Γ w 2 [(0, ar (D.x + 1)), (1, ai x1)] [] := fun _ _ z => z
  refine zt_tok G (fun hw => ?_)
  refine zv_iload_n G rfl rfl dX1_judge_2 ?_
  refine zv_aload_n G rfl rfl dX1_judge_3 ?_
  refine zt_get (k := 41) (v := ai (tI w 41)) G (by decide) q2196 rfl dX1_judge_4 ?_
  refine zv_icmp_ge (tgt := 66) G rx1 (hw.i 41 (by decide)) (by decide) dX1_judge_7 (fun c1 => ?_) (fun c1 => ?_)
  · have h := h.1 c1
    exact zv_pick [0] rfl (cpT_judge_66 G M S hk h)
  · have h := h.2 c1
    refine zv_iconst (a := 0) G (by decide) dX1_judge_10 ?_
    refine zv_istore_n G rfl (by decide) rfl dX1_judge_11 ?_
    exact zv_pick [0, 1, 2] rfl (cpT_judge_12 G M S hk hI2 rx1 (zr_k 0 (by decide) (by decide)) h)
set_option maxHeartbeats 4000000 in
set_option maxRecDepth 100000 in
theorem cpT_judge_0 {Γ : ZG TW} {D : TD} {B0 d : Nat} {lim : Nat × Nat} (G : ZOk Γ cX1_judge RX1 3 (KnT D B0) (ZT D B0)) (M : ZRm Γ (d + 1) lim none "judge" []) (S : SdT d D B0 Γ.l lim) (hk : 0 ≤ d) {w : TW} (h : pT_judge_0 (wpT d) (fun w => Γ.Q (.inl none) w) w) : ZV Γ w 0 [(0, ar (D.x + 1))] [] := by
  refine zt_tok G (fun hw => ?_)
  refine zv_iconst (a := 0) G (by decide) dX1_judge_0 ?_
  refine zv_istore_n G rfl (by decide) rfl dX1_judge_1 ?_
  exact zv_pick [0, 1] rfl (cpT_judge_2 G M S hk (zr_k 0 (by decide) (by decide)) h)
set_option maxHeartbeats 4000000 in
set_option maxRecDepth 100000 in
theorem cpT_wait0_0 {Γ : ZG TW} {D : TD} {B0 d : Nat} {lim : Nat × Nat} (G : ZOk Γ cX1_wait0 RX1 5 (KnT D B0) (ZT D B0)) (M : ZRm Γ (d + 1) lim none "wait0" []) (S : SdT d D B0 Γ.l lim) (hk : 0 ≤ d) {x1 : Int} {x2 : Int} {x3 : Int} {x4 : Int} {w : TW} (rx1 : zr x1) (rx2 : zr x2) (rx3 : zr x3) (rx4 : zr x4) (h : pT_wait0_0 (wpT d) (fun w => Γ.Q (.inl none) w) x1 x2 x3 x4 w) : ZV Γ w 0 [(0, ar (D.x + 1)), (1, ai x1), (2, ai x2), (3, ai x3), (4, ai x4)] [] := by
  refine zt_tok G (fun hw => ?_)
  refine zv_aload_n G rfl rfl dX1_wait0_0 ?_
  refine zt_get (k := 72) (v := ar (D.ad 72 + 1)) G (by decide) q2227 rfl dX1_wait0_1 ?_
  refine zv_aload_n G rfl rfl dX1_wait0_4 ?_
  refine zt_get (k := 71) (v := ai (tI w 71)) G (by decide) q2226 rfl dX1_wait0_5 ?_
  refine zv_iload_n G rfl rfl dX1_wait0_8 ?_
  have o2 := h.1
  have h := h.2
  refine zt_iast (f := 72) G (by decide) rfl (hw.i 71 (by decide)) rx1 o2.1 o2.2 dX1_wait0_9 (fun u1 eu1 => ?_)
  have h := h u1 eu1
  refine zt_tok G (fun hu1 => ?_)
  refine zv_aload_n G rfl rfl dX1_wait0_10 ?_
  refine zt_get (k := 73) (v := ar (D.ad 73 + 1)) G (by decide) q2228 rfl dX1_wait0_11 ?_
  refine zv_aload_n G rfl rfl dX1_wait0_14 ?_
  refine zt_get (k := 71) (v := ai (tI u1 71)) G (by decide) q2226 rfl dX1_wait0_15 ?_
  refine zv_iload_n G rfl rfl dX1_wait0_18 ?_
  have o4 := h.1
  have h := h.2
  refine zt_iast (f := 73) G (by decide) rfl (hu1.i 71 (by decide)) rx2 o4.1 o4.2 dX1_wait0_19 (fun u3 eu3 => ?_)
  have h := h u3 eu3
  refine zt_tok G (fun hu3 => ?_)
  refine zv_aload_n G rfl rfl dX1_wait0_20 ?_
  refine zt_get (k := 74) (v := ar (D.ad 74 + 1)) G (by decide) q2229 rfl dX1_wait0_21 ?_
  refine zv_aload_n G rfl rfl dX1_wait0_24 ?_
  refine zt_get (k := 71) (v := ai (tI u3 71)) G (by decide) q2226 rfl dX1_wait0_25 ?_
  refine zv_iload_n G rfl rfl dX1_wait0_28 ?_
  have o6 := h.1
  have h := h.2
  refine zt_iast (f := 74) G (by decide) rfl (hu3.i 71 (by decide)) rx3 o6.1 o6.2 dX1_wait0_29 (fun u5 eu5 => ?_)
  have h := h u5 eu5
  refine zt_tok G (fun hu5 => ?_)
  refine zv_aload_n G rfl rfl dX1_wait0_30 ?_
  refine zt_get (k := 75) (v := ar (D.ad 75 + 1)) G (by decide) q2230 rfl dX1_wait0_31 ?_
  refine zv_aload_n G rfl rfl dX1_wait0_34 ?_
  refine zt_get (k := 71) (v := ai (tI u5 71)) G (by decide) q2226 rfl dX1_wait0_35 ?_
  refine zv_iload G rfl dX1_wait0_38 ?_
  have o8 := h.1
  have h := h.2
  refine zt_iast (f := 75) G (by decide) rfl (hu5.i 71 (by decide)) rx4 o8.1 o8.2 dX1_wait0_40 (fun u7 eu7 => ?_)
  have h := h u7 eu7
  refine zt_tok G (fun hu7 => ?_)
  refine zv_aload_n G rfl rfl dX1_wait0_41 ?_
  refine zv_dup G rfl dX1_wait0_42 ?_
  refine zt_get (k := 71) (v := ai (tI u7 71)) G (by decide) q2226 rfl dX1_wait0_43 ?_
  refine zv_iconst (a := 1) G (by decide) dX1_wait0_46 ?_
  refine zv_iadd G dX1_wait0_47 ?_
  refine zt_putI (k := 71) G (by decide) q2226 rfl (tyX1_ok 71 (by decide)) rfl (w32_r _) dX1_wait0_48 (fun u9 eu9 => ?_)
  have h := h u9 eu9
  refine zt_tok G (fun hu9 => ?_)
  exact zv_vret G M dX1_wait0_51 h
set_option maxHeartbeats 4000000 in
set_option maxRecDepth 100000 in
theorem cpT_waitAll_143 {Γ : ZG TW} {D : TD} {B0 d : Nat} {lim : Nat × Nat} (G : ZOk Γ cX1_waitAll RX1 10 (KnT D B0) (ZT D B0)) (M : ZRm Γ (d + 1) lim none "waitAll" []) (S : SdT d D B0 Γ.l lim) (hk : 0 ≤ d) {w : TW} (h : pT_waitAll_143 (wpT d) (fun w => Γ.Q (.inl none) w) w) : ZV Γ w 143 [] [] := by
  refine zt_tok G (fun hw => ?_)
  exact zv_vret G M dX1_waitAll_143 h
set_option maxHeartbeats 4000000 in
set_option maxRecDepth 100000 in
theorem cpT_waitAll_46 {Γ : ZG TW} {D : TD} {B0 d : Nat} {lim : Nat × Nat} (G : ZOk Γ cX1_waitAll RX1 10 (KnT D B0) (ZT D B0)) (M : ZRm Γ (d + 1) lim none "waitAll" []) (S : SdT d D B0 Γ.l lim) (hk : 0 ≤ d) {x3 : Int} {x4 : Int} {x6 : Int} {x7 : Int} {w : TW} (rx3 : zr x3) (rx4 : zr x4) (rx6 : zr x6) (rx7 : zr x7) (h : pT_waitAll_46 (wpT d) (fun w => Γ.Q (.inl none) w) x3 x4 x6 x7 w) : ZV Γ w 46 [(0, ar (D.x + 1)), (3, ai x3), (4, ai x4), (6, ai x6), (7, ai x7)] [] := by
  refine h (fun x6 x7 w => zr x6 → zr x7 → ZV Γ w 46 [(0, ar (D.x + 1)), (3, ai x3), (4, ai x4), (6, ai x6), (7, ai x7)] []) ?_ rx6 rx7
  clear h
  intro x6 x7 w h rx6 rx7
  have hI46 : ∀ (x6 : Int) (x7 : Int) (w : TW), (fun x6 x7 w => zr x6 → zr x7 → ZV Γ w 46 [(0, ar (D.x + 1)), (3, ai x3), (4, ai x4), (6, ai x6), (7, ai x7)] []) x6 x7 w → zr x6 → zr x7 → ZV Γ w 46 [(0, ar (D.x + 1)), (3, ai x3), (4, ai x4), (6, ai x6), (7, ai x7)] [] := fun _ _ _ z => z
  refine zt_tok G (fun hw => ?_)
  refine zv_iload G rfl dX1_waitAll_46 ?_
  refine zv_if_lt (tgt := 143) G rx7 (by decide) dX1_waitAll_48 (fun c3 => ?_) (fun c3 => ?_)
  · have h := h.1 c3
    exact zv_pick [] rfl (cpT_waitAll_143 G M S hk h)
  · have h := h.2 c3
    refine zv_aload_n G rfl rfl dX1_waitAll_51 ?_
    refine zt_get (k := 76) (v := ar (D.ad 76 + 1)) G (by decide) q2231 rfl dX1_waitAll_52 ?_
    refine zv_iload G rfl dX1_waitAll_55 ?_
    have o4 := h.1
    have h := h.2
    refine zt_iald (f := 76) G (by decide) rfl rx7 o4.1 o4.2 dX1_waitAll_57 ?_
    refine zv_istoreN G (by decide) dX1_waitAll_58 (fun x8_5 ex8_5 => ?_)
    have h := h x8_5 ex8_5
    have rx8_5 : zr x8_5 := by rw [ex8_5]; exact (hw.a 76 _ (by decide))
    refine zv_iload G rfl dX1_waitAll_60 ?_
    have o7 := h.1
    have h := h.2
    have kj15 : ∀ v6 : Int, v6 = (if x4 < 0 then (-4) else (if x3 = 0 then tA w 117 x7 else tA w 114 (w32 ((w32 (4 * x4)) + x7)))) → ZV Γ w 96 [(8, ai x8_5), (0, ar (D.x + 1)), (3, ai x3), (4, ai x4), (6, ai x6), (7, ai x7)] (ai v6 :: []) := by
      intro v6 ev6
      have h := h v6 ev6
      have rv6 : zr v6 := by rw [ev6]; exact (zr_ite (zr_k (-4) (by decide) (by decide)) (zr_ite (hw.a 117 _ (by decide)) (hw.a 114 _ (by decide))))
      refine zv_istore G (by decide) rfl dX1_waitAll_96 ?_
      refine zv_aload_n G rfl rfl dX1_waitAll_98 ?_
      refine zv_iload G rfl dX1_waitAll_99 ?_
      refine zv_iload G rfl dX1_waitAll_101 ?_
      refine zv_aload_n G rfl rfl dX1_waitAll_103 ?_
      refine zt_get (k := 26) (v := ar (D.ad 26 + 1)) G (by decide) q2181 rfl dX1_waitAll_104 ?_
      refine zv_iload G rfl dX1_waitAll_107 ?_
      have o8 := h.1
      have h := h.2
      refine zt_iald (f := 26) G (by decide) rfl rx8_5 o8.1 o8.2 dX1_waitAll_109 ?_
      have o9 := h.1
      have h := h.2
      refine zv_irem G (hw.a 26 _ (by decide)) o9 dX1_waitAll_110 ?_
      refine zv_bipush (a := 8) G (by decide) dX1_waitAll_111 ?_
      refine zv_iload_n G rfl rfl dX1_waitAll_113 ?_
      refine zv_imul G dX1_waitAll_114 ?_
      refine zv_iload G rfl dX1_waitAll_115 ?_
      refine zv_iadd G dX1_waitAll_117 ?_
      refine zv_iconst (a := 1) G (by decide) dX1_waitAll_118 ?_
      refine zv_iadd G dX1_waitAll_119 ?_
      refine zv_iload G rfl dX1_waitAll_120 ?_
      refine zt_callV (as := [ai x8_5, ai (i_rem x6 (tA w 26 x8_5)), ai (w32 ((w32 ((w32 (8 * x3)) + x7)) + 1)), ai v6]) G M (S 49 _ rfl _ _ _ h (zoks_cons rx8_5 (zoks_cons (by first | exact i_and_r _ _ | exact i_or_r _ _ | exact i_shl_r _ _ | exact i_shr_r _ _ | exact i_ushr_r _ _ | exact i_b_r _ | exact i_c_r _ | exact i_xor_r _ _ | exact i_div_r _ _ | exact i_rem_r _ _ | exact zr_of _) (zoks_cons (w32_r _) (zoks_cons rv6 zoks_nil))))) q2762 q2764 qs110 q2765 md_wait0 rfl (by decide) (Nat.le_of_ble_eq_true rfl) dX1_waitAll_122 (fun u10 h => ?_)
      refine zt_tok G (fun hu10 => ?_)
      refine zv_iload G rfl dX1_waitAll_125 ?_
      refine zv_aload_n G rfl rfl dX1_waitAll_127 ?_
      refine zt_get (k := 26) (v := ar (D.ad 26 + 1)) G (by decide) q2181 rfl dX1_waitAll_128 ?_
      refine zv_iload G rfl dX1_waitAll_131 ?_
      have o11 := h.1
      have h := h.2
      refine zt_iald (f := 26) G (by decide) rfl rx8_5 o11.1 o11.2 dX1_waitAll_133 ?_
      have o12 := h.1
      have h := h.2
      refine zv_idiv G (hu10.a 26 _ (by decide)) o12 dX1_waitAll_134 ?_
      refine zv_istoreN G (by decide) dX1_waitAll_135 (fun x6_13 ex6_13 => ?_)
      have h := h x6_13 ex6_13
      have rx6_13 : zr x6_13 := by rw [ex6_13]; exact (by first | exact i_and_r _ _ | exact i_or_r _ _ | exact i_shl_r _ _ | exact i_shr_r _ _ | exact i_ushr_r _ _ | exact i_b_r _ | exact i_c_r _ | exact i_xor_r _ _ | exact i_div_r _ _ | exact i_rem_r _ _ | exact zr_of _)
      refine zv_iincN G rfl (by decide) dX1_waitAll_137 (fun x7_14 ex7_14 => ?_)
      have h := h x7_14 ex7_14
      have rx7_14 : zr x7_14 := by rw [ex7_14]; exact w32_r _
      refine zv_goto (tgt := 46) G (by decide) dX1_waitAll_140 ?_
      exact zv_pick [0, 3, 4, 6, 7] rfl (hI46 _ _ _ h rx6_13 rx7_14)
    refine zv_if_lt (tgt := 94) G rx4 (by decide) dX1_waitAll_62 (fun c16 => ?_) (fun c16 => ?_)
    · refine zv_bipush (a := (-4)) G (by decide) dX1_waitAll_94 ?_
      exact kj15 _ (by rw [if_pos c16])
    · refine zv_iload_n G rfl rfl dX1_waitAll_65 ?_
      refine zv_if_ne (tgt := 79) G rx3 (by decide) dX1_waitAll_66 (fun c17 => ?_) (fun c17 => ?_)
      · refine zv_aload_n G rfl rfl dX1_waitAll_79 ?_
        refine zt_get (k := 114) (v := ar (D.ad 114 + 1)) G (by decide) q2269 rfl dX1_waitAll_80 ?_
        refine zv_iconst (a := 4) G (by decide) dX1_waitAll_83 ?_
        refine zv_iload G rfl dX1_waitAll_84 ?_
        refine zv_imul G dX1_waitAll_86 ?_
        refine zv_iload G rfl dX1_waitAll_87 ?_
        refine zv_iadd G dX1_waitAll_89 ?_
        refine zt_iald (f := 114) G (by decide) rfl (w32_r _) ((o7 c16).2 c17).1 ((o7 c16).2 c17).2 dX1_waitAll_90 ?_
        refine zv_goto (tgt := 96) G (by decide) dX1_waitAll_91 ?_
        exact kj15 _ (by rw [if_neg c16, if_neg c17])
      · refine zv_aload_n G rfl rfl dX1_waitAll_69 ?_
        refine zt_get (k := 117) (v := ar (D.ad 117 + 1)) G (by decide) q2272 rfl dX1_waitAll_70 ?_
        refine zv_iload G rfl dX1_waitAll_73 ?_
        refine zt_iald (f := 117) G (by decide) rfl rx7 ((o7 c16).1 c17).1 ((o7 c16).1 c17).2 dX1_waitAll_75 ?_
        refine zv_goto (tgt := 96) G (by decide) dX1_waitAll_76 ?_
        exact kj15 _ (by rw [if_neg c16, if_pos c17])
set_option maxHeartbeats 4000000 in
set_option maxRecDepth 100000 in
theorem cpT_waitAll_37 {Γ : ZG TW} {D : TD} {B0 d : Nat} {lim : Nat × Nat} (G : ZOk Γ cX1_waitAll RX1 10 (KnT D B0) (ZT D B0)) (M : ZRm Γ (d + 1) lim none "waitAll" []) (S : SdT d D B0 Γ.l lim) (hk : 0 ≤ d) {x2 : Int} {x3 : Int} {x4 : Int} {x5 : Int} {w : TW} (rx2 : zr x2) (rx3 : zr x3) (rx4 : zr x4) (rx5 : zr x5) (h : pT_waitAll_37 (wpT d) (fun w => Γ.Q (.inl none) w) x2 x3 x4 x5 w) : ZV Γ w 37 [(0, ar (D.x + 1)), (2, ai x2), (3, ai x3), (4, ai x4), (5, ai x5)] [] := by
  refine zt_tok G (fun hw => ?_)
  refine zv_iload_n G rfl rfl dX1_waitAll_37 ?_
  refine zv_istore G (by decide) rfl dX1_waitAll_38 ?_
  refine zv_iload G rfl dX1_waitAll_40 ?_
  refine zv_iconst (a := 1) G (by decide) dX1_waitAll_42 ?_
  refine zv_isub G dX1_waitAll_43 ?_
  refine zv_istoreN G (by decide) dX1_waitAll_44 (fun x7_2 ex7_2 => ?_)
  have h := h x7_2 ex7_2
  have rx7_2 : zr x7_2 := by rw [ex7_2]; exact (w32_r _)
  exact zv_pick [0, 3, 4, 6, 7] rfl (cpT_waitAll_46 G M S hk rx3 rx4 rx2 rx7_2 h)
set_option maxHeartbeats 4000000 in
set_option maxRecDepth 100000 in
theorem cpT_waitAll_6 {Γ : ZG TW} {D : TD} {B0 d : Nat} {lim : Nat × Nat} (G : ZOk Γ cX1_waitAll RX1 10 (KnT D B0) (ZT D B0)) (M : ZRm Γ (d + 1) lim none "waitAll" []) (S : SdT d D B0 Γ.l lim) (hk : 0 ≤ d) {x2 : Int} {x3 : Int} {x4 : Int} {x5 : Int} {x6 : Int} {w : TW} (rx2 : zr x2) (rx3 : zr x3) (rx4 : zr x4) (rx5 : zr x5) (rx6 : zr x6) (h : pT_waitAll_6 (wpT d) (fun w => Γ.Q (.inl none) w) x2 x3 x4 x5 x6 w) : ZV Γ w 6 [(0, ar (D.x + 1)), (2, ai x2), (3, ai x3), (4, ai x4), (5, ai x5), (6, ai x6)] [] := by
  refine h (fun x5 x6 w => zr x5 → zr x6 → ZV Γ w 6 [(0, ar (D.x + 1)), (2, ai x2), (3, ai x3), (4, ai x4), (5, ai x5), (6, ai x6)] []) ?_ rx5 rx6
  clear h
  intro x5 x6 w h rx5 rx6
  have hI6 : ∀ (x5 : Int) (x6 : Int) (w : TW), (fun x5 x6 w => zr x5 → zr x6 → ZV Γ w 6 [(0, ar (D.x + 1)), (2, ai x2), (3, ai x3), (4, ai x4), (5, ai x5), (6, ai x6)] []) x5 x6 w → zr x5 → zr x6 → ZV Γ w 6 [(0, ar (D.x + 1)), (2, ai x2), (3, ai x3), (4, ai x4), (5, ai x5), (6, ai x6)] [] := fun _ _ _ z => z
  refine zt_tok G (fun hw => ?_)
  refine zv_iload G rfl dX1_waitAll_6 ?_
  refine zv_bipush (a := (-4)) G (by decide) dX1_waitAll_8 ?_
  refine zv_icmp_eq (tgt := 37) G rx6 (zr_k (-4) (by decide) (by decide)) (by decide) dX1_waitAll_10 (fun c1 => ?_) (fun c1 => ?_)
  · have h := h.1 c1
    exact zv_pick [0, 2, 3, 4, 5] rfl (cpT_waitAll_37 G M S hk rx2 rx3 rx4 rx5 h)
  · have h := h.2 c1
    refine zv_aload_n G rfl rfl dX1_waitAll_13 ?_
    refine zt_get (k := 76) (v := ar (D.ad 76 + 1)) G (by decide) q2231 rfl dX1_waitAll_14 ?_
    refine zv_iload G rfl dX1_waitAll_17 ?_
    refine zv_iload G rfl dX1_waitAll_19 ?_
    have o19 := h.1
    have h := h.2
    refine zt_iast (f := 76) G (by decide) rfl rx5 rx6 o19.1 o19.2 dX1_waitAll_21 (fun u18 eu18 => ?_)
    have h := h u18 eu18
    refine zt_tok G (fun hu18 => ?_)
    refine zv_iincN G rfl (by decide) dX1_waitAll_22 (fun x5_20 ex5_20 => ?_)
    have h := h x5_20 ex5_20
    have rx5_20 : zr x5_20 := by rw [ex5_20]; exact w32_r _
    refine zv_aload_n G rfl rfl dX1_waitAll_25 ?_
    refine zt_get (k := 23) (v := ar (D.ad 23 + 1)) G (by decide) q2178 rfl dX1_waitAll_26 ?_
    refine zv_iload G rfl dX1_waitAll_29 ?_
    have o21 := h.1
    have h := h.2
    refine zt_iald (f := 23) G (by decide) rfl rx6 o21.1 o21.2 dX1_waitAll_31 ?_
    refine zv_istoreN G (by decide) dX1_waitAll_32 (fun x6_22 ex6_22 => ?_)
    have h := h x6_22 ex6_22
    have rx6_22 : zr x6_22 := by rw [ex6_22]; exact (hu18.a 23 _ (by decide))
    refine zv_goto (tgt := 6) G (by decide) dX1_waitAll_34 ?_
    exact zv_pick [0, 2, 3, 4, 5, 6] rfl (hI6 _ _ _ h rx5_20 rx6_22)
set_option maxHeartbeats 4000000 in
set_option maxRecDepth 100000 in
theorem cpT_waitAll_0 {Γ : ZG TW} {D : TD} {B0 d : Nat} {lim : Nat × Nat} (G : ZOk Γ cX1_waitAll RX1 10 (KnT D B0) (ZT D B0)) (M : ZRm Γ (d + 1) lim none "waitAll" []) (S : SdT d D B0 Γ.l lim) (hk : 0 ≤ d) {x1 : Int} {x2 : Int} {x3 : Int} {x4 : Int} {w : TW} (rx1 : zr x1) (rx2 : zr x2) (rx3 : zr x3) (rx4 : zr x4) (h : pT_waitAll_0 (wpT d) (fun w => Γ.Q (.inl none) w) x1 x2 x3 x4 w) : ZV Γ w 0 [(0, ar (D.x + 1)), (1, ai x1), (2, ai x2), (3, ai x3), (4, ai x4)] [] := by
  refine zt_tok G (fun hw => ?_)
  refine zv_iconst (a := 0) G (by decide) dX1_waitAll_0 ?_
  refine zv_istore G (by decide) rfl dX1_waitAll_1 ?_
  refine zv_iload_n G rfl rfl dX1_waitAll_3 ?_
  refine zv_istore G (by decide) rfl dX1_waitAll_4 ?_
  exact zv_pick [0, 2, 3, 4, 5, 6] rfl (cpT_waitAll_6 G M S hk rx2 rx3 rx4 (zr_k 0 (by decide) (by decide)) rx1 h)
end ZCT1
