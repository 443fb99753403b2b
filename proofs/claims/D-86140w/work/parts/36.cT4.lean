/-! walks of the reference's methods, printed by tools/twin.py -/
section ZCT4
set_option maxHeartbeats 4000000 in
set_option maxRecDepth 100000 in
theorem cpT_standing_67 {Γ : ZG TW} {D : TD} {B0 d : Nat} {lim : Nat × Nat} (G : ZOk Γ cX1_standing RX1 6 (KnT D B0) (ZT D B0)) (M : ZRm Γ (d + 1) lim (some .int) "standing" []) (S : SdT d D B0 Γ.l lim) (hk : 0 ≤ d) {x4 : Int} {w : TW} (rx4 : zr x4) (h : pT_standing_67 (wpT d) (fun v w => Γ.Q (.inl (some (ai v))) w) x4 w) : ZV Γ w 67 [(4, ai x4)] [] := by
  refine zt_tok G (fun hw => ?_)
  refine zv_iload G rfl dX1_standing_67 ?_
  exact zv_iret (ty := .int) rx4 G M rfl dX1_standing_69 h
set_option maxHeartbeats 4000000 in
set_option maxRecDepth 100000 in
theorem cpT_standing_35 {Γ : ZG TW} {D : TD} {B0 d : Nat} {lim : Nat × Nat} (G : ZOk Γ cX1_standing RX1 6 (KnT D B0) (ZT D B0)) (M : ZRm Γ (d + 1) lim (some .int) "standing" []) (S : SdT d D B0 Γ.l lim) (hk : 0 ≤ d) {x1 : Int} {x4 : Int} {x5 : Int} {w : TW} (rx1 : zr x1) (rx4 : zr x4) (rx5 : zr x5) (h : pT_standing_35 (wpT d) (fun v w => Γ.Q (.inl (some (ai v))) w) x1 x4 x5 w) : ZV Γ w 35 [(0, ar (D.x + 1)), (1, ai x1), (4, ai x4), (5, ai x5)] [] := by
  refine h (fun x4 x5 w => zr x4 → zr x5 → ZV Γ w 35 [(0, ar (D.x + 1)), (1, ai x1), (4, ai x4), (5, ai x5)] []) ?_ rx4 rx5
  clear h
  intro x4 x5 w h rx4 rx5
  have hI35 : ∀ (x4 : Int) (x5 : Int) (w : TW), (fun x4 x5 w => zr x4 → zr x5 → ZV Γ w 35 [(0, ar (D.x + 1)), (1, ai x1), (4, ai x4), (5, ai x5)] []) x4 x5 w → zr x4 → zr x5 → ZV Γ w 35 [(0, ar (D.x + 1)), (1, ai x1), (4, ai x4), (5, ai x5)] [] := fun _ _ _ z => z
  refine zt_tok G (fun hw => ?_)
  refine zv_iload G rfl dX1_standing_35 ?_
  refine zv_if_lt (tgt := 67) G rx5 (by decide) dX1_standing_37 (fun c5 => ?_) (fun c5 => ?_)
  · have h := h.1 c5
    exact zv_pick [4] rfl (cpT_standing_67 G M S hk rx4 h)
  · have h := h.2 c5
    refine zv_aload_n G rfl rfl dX1_standing_40 ?_
    refine zt_get (k := 114) (v := ar (D.ad 114 + 1)) G (by decide) q2269 rfl dX1_standing_41 ?_
    refine zv_iconst (a := 4) G (by decide) dX1_standing_44 ?_
    refine zv_iload G rfl dX1_standing_45 ?_
    refine zv_imul G dX1_standing_47 ?_
    refine zv_iload_n G rfl rfl dX1_standing_48 ?_
    refine zv_iload G rfl dX1_standing_49 ?_
    refine zv_ishr G dX1_standing_51 ?_
    refine zv_bipush (a := 7) G (by decide) dX1_standing_52 ?_
    refine zv_iand G dX1_standing_54 ?_
    refine zv_iadd G dX1_standing_55 ?_
    refine zv_iconst (a := 1) G (by decide) dX1_standing_56 ?_
    refine zv_isub G dX1_standing_57 ?_
    have o6 := h.1
    have h := h.2
    refine zt_iald (f := 114) G (by decide) rfl (w32_r _) o6.1 o6.2 dX1_standing_58 ?_
    refine zv_istoreN G (by decide) dX1_standing_59 (fun x4_7 ex4_7 => ?_)
    have h := h x4_7 ex4_7
    have rx4_7 : zr x4_7 := by rw [ex4_7]; exact (hw.a 114 _ (by decide))
    refine zv_iincN G rfl (by decide) dX1_standing_61 (fun x5_8 ex5_8 => ?_)
    have h := h x5_8 ex5_8
    have rx5_8 : zr x5_8 := by rw [ex5_8]; exact w32_r _
    refine zv_goto (tgt := 35) G (by decide) dX1_standing_64 ?_
    exact zv_pick [0, 1, 4, 5] rfl (hI35 _ _ _ h rx4_7 rx5_8)
set_option maxHeartbeats 4000000 in
set_option maxRecDepth 100000 in
theorem cpT_standing_20 {Γ : ZG TW} {D : TD} {B0 d : Nat} {lim : Nat × Nat} (G : ZOk Γ cX1_standing RX1 6 (KnT D B0) (ZT D B0)) (M : ZRm Γ (d + 1) lim (some .int) "standing" []) (S : SdT d D B0 Γ.l lim) (hk : 0 ≤ d) {x1 : Int} {x2 : Int} {x3 : Int} {w : TW} (rx1 : zr x1) (rx2 : zr x2) (rx3 : zr x3) (h : pT_standing_20 (wpT d) (fun v w => Γ.Q (.inl (some (ai v))) w) x1 x2 x3 w) : ZV Γ w 20 [(0, ar (D.x + 1)), (1, ai x1), (2, ai x2), (3, ai x3)] [] := by
  refine zt_tok G (fun hw => ?_)
  refine zv_aload_n G rfl rfl dX1_standing_20 ?_
  refine zt_get (k := 117) (v := ar (D.ad 117 + 1)) G (by decide) q2272 rfl dX1_standing_21 ?_
  refine zv_iload_n G rfl rfl dX1_standing_24 ?_
  refine zv_iconst (a := 1) G (by decide) dX1_standing_25 ?_
  refine zv_isub G dX1_standing_26 ?_
  have o2 := h.1
  have h := h.2
  refine zt_iald (f := 117) G (by decide) rfl (w32_r _) o2.1 o2.2 dX1_standing_27 ?_
  refine zv_istoreN G (by decide) dX1_standing_28 (fun x4_3 ex4_3 => ?_)
  have h := h x4_3 ex4_3
  have rx4_3 : zr x4_3 := by rw [ex4_3]; exact (hw.a 117 _ (by decide))
  refine zv_iload_n G rfl rfl dX1_standing_30 ?_
  refine zv_iconst (a := 3) G (by decide) dX1_standing_31 ?_
  refine zv_isub G dX1_standing_32 ?_
  refine zv_istoreN G (by decide) dX1_standing_33 (fun x5_4 ex5_4 => ?_)
  have h := h x5_4 ex5_4
  have rx5_4 : zr x5_4 := by rw [ex5_4]; exact (w32_r _)
  exact zv_pick [0, 1, 4, 5] rfl (cpT_standing_35 G M S hk rx1 rx4_3 rx5_4 h)
set_option maxHeartbeats 4000000 in
set_option maxRecDepth 100000 in
theorem cpT_standing_4 {Γ : ZG TW} {D : TD} {B0 d : Nat} {lim : Nat × Nat} (G : ZOk Γ cX1_standing RX1 6 (KnT D B0) (ZT D B0)) (M : ZRm Γ (d + 1) lim (some .int) "standing" []) (S : SdT d D B0 Γ.l lim) (hk : 0 ≤ d) {x1 : Int} {x2 : Int} {x3 : Int} {w : TW} (rx1 : zr x1) (rx2 : zr x2) (rx3 : zr x3) (h : pT_standing_4 (wpT d) (fun v w => Γ.Q (.inl (some (ai v))) w) x1 x2 x3 w) : ZV Γ w 4 [(0, ar (D.x + 1)), (1, ai x1), (2, ai x2), (3, ai x3)] [] := by
  refine h (fun x2 x3 w => zr x2 → zr x3 → ZV Γ w 4 [(0, ar (D.x + 1)), (1, ai x1), (2, ai x2), (3, ai x3)] []) ?_ rx2 rx3
  clear h
  intro x2 x3 w h rx2 rx3
  have hI4 : ∀ (x2 : Int) (x3 : Int) (w : TW), (fun x2 x3 w => zr x2 → zr x3 → ZV Γ w 4 [(0, ar (D.x + 1)), (1, ai x1), (2, ai x2), (3, ai x3)] []) x2 x3 w → zr x2 → zr x3 → ZV Γ w 4 [(0, ar (D.x + 1)), (1, ai x1), (2, ai x2), (3, ai x3)] [] := fun _ _ _ z => z
  refine zt_tok G (fun hw => ?_)
  refine zv_iload_n G rfl rfl dX1_standing_4 ?_
  refine zv_bipush (a := 7) G (by decide) dX1_standing_5 ?_
  refine zv_icmp_le (tgt := 20) G rx2 (zr_k 7 (by decide) (by decide)) (by decide) dX1_standing_7 (fun c1 => ?_) (fun c1 => ?_)
  · have h := h.1 c1
    exact zv_pick [0, 1, 2, 3] rfl (cpT_standing_20 G M S hk rx1 rx2 rx3 h)
  · have h := h.2 c1
    refine zv_iload_n G rfl rfl dX1_standing_10 ?_
    refine zv_iconst (a := 3) G (by decide) dX1_standing_11 ?_
    refine zv_ishr G dX1_standing_12 ?_
    refine zv_istore_nN G rfl (by decide) dX1_standing_13 (fun x2_9 ex2_9 => ?_)
    have h := h x2_9 ex2_9
    have rx2_9 : zr x2_9 := by rw [ex2_9]; exact (by first | exact i_and_r _ _ | exact i_or_r _ _ | exact i_shl_r _ _ | exact i_shr_r _ _ | exact i_ushr_r _ _ | exact i_b_r _ | exact i_c_r _ | exact i_xor_r _ _ | exact i_div_r _ _ | exact i_rem_r _ _ | exact zr_of _)
    refine zv_iincN G rfl (by decide) dX1_standing_14 (fun x3_10 ex3_10 => ?_)
    have h := h x3_10 ex3_10
    have rx3_10 : zr x3_10 := by rw [ex3_10]; exact w32_r _
    refine zv_goto (tgt := 4) G (by decide) dX1_standing_17 ?_
    exact zv_pick [0, 1, 2, 3] rfl (hI4 _ _ _ h rx2_9 rx3_10)
set_option maxHeartbeats 4000000 in
set_option maxRecDepth 100000 in
theorem cpT_standing_0 {Γ : ZG TW} {D : TD} {B0 d : Nat} {lim : Nat × Nat} (G : ZOk Γ cX1_standing RX1 6 (KnT D B0) (ZT D B0)) (M : ZRm Γ (d + 1) lim (some .int) "standing" []) (S : SdT d D B0 Γ.l lim) (hk : 0 ≤ d) {x1 : Int} {w : TW} (rx1 : zr x1) (h : pT_standing_0 (wpT d) (fun v w => Γ.Q (.inl (some (ai v))) w) x1 w) : ZV Γ w 0 [(0, ar (D.x + 1)), (1, ai x1)] [] := by
  refine zt_tok G (fun hw => ?_)
  refine zv_iload_n G rfl rfl dX1_standing_0 ?_
  refine zv_istore_n G rfl (by decide) rfl dX1_standing_1 ?_
  refine zv_iconst (a := 0) G (by decide) dX1_standing_2 ?_
  refine zv_istore_n G rfl (by decide) rfl dX1_standing_3 ?_
  exact zv_pick [0, 1, 2, 3] rfl (cpT_standing_4 G M S hk rx1 rx1 (zr_k 0 (by decide) (by decide)) h)
set_option maxHeartbeats 4000000 in
set_option maxRecDepth 100000 in
theorem cpT_isBranch_0 {Γ : ZG TW} {D : TD} {B0 d : Nat} {lim : Nat × Nat} (G : ZOk Γ cX1_isBranch RX1 4 (KnT D B0) (ZT D B0)) (M : ZRm Γ (d + 1) lim (some .boolean) "isBranch" []) (S : SdT d D B0 Γ.l lim) (hk : 0 ≤ d) {x1 : Int} {x2 : Int} {x3 : Int} {w : TW} (rx1 : zr x1) (rx2 : zr x2) (rx3 : zr x3) (h : pT_isBranch_0 (wpT d) (fun v w => Γ.Q (.inl (some (ai v))) w) x1 x2 x3 w) : ZV Γ w 0 [(0, ar (D.x + 1)), (1, ai x1), (2, ai x2), (3, ai x3)] [] := by
  refine zt_tok G (fun hw => ?_)
  refine zv_iload_n G rfl rfl dX1_isBranch_0 ?_
  by_cases c15 : x2 = 3
  · have h := h.1 c15
    refine zv_tswI (tgt := 28) G dX1_isBranch_1 0 rx2 (by omega) (by omega) rfl (by decide) ?_
    refine zv_aload_n G rfl rfl dX1_isBranch_28 ?_
    refine zt_get (k := 110) (v := ar (D.ad 110 + 1)) G (by decide) q2265 rfl dX1_isBranch_29 ?_
    refine zv_iload_n G rfl rfl dX1_isBranch_32 ?_
    have o8 := h.1
    have h := h.2
    refine zt_iald (f := 110) G (by decide) rfl rx3 o8.1 o8.2 dX1_isBranch_33 ?_
    refine zv_iconst (a := 3) G (by decide) dX1_isBranch_34 ?_
    have o10 := h.1
    have h := h.2
    have kj11 : ∀ v9 : Int, v9 = (if (tA w 110 x3) = 3 then (if (tA w 89 x1) = (-4) then 1 else 0) else (if (tA w 89 x1) = (tA w 111 x3) then 1 else 0)) → ZV Γ w 77 [(0, ar (D.x + 1)), (1, ai x1), (2, ai x2), (3, ai x3)] (ai v9 :: []) := by
      intro v9 ev9
      have h := h v9 ev9
      have rv9 : zr v9 := by rw [ev9]; exact (zr_ite (zr_ite (zr_k 1 (by decide) (by decide)) (zr_k 0 (by decide) (by decide))) (zr_ite (zr_k 1 (by decide) (by decide)) (zr_k 0 (by decide) (by decide))))
      have bv9 : v9 = 0 ∨ v9 = 1 := by rw [ev9]; exact (zb_ite (zb_ite (Or.inr rfl) (Or.inl rfl)) (zb_ite (Or.inr rfl) (Or.inl rfl)))
      exact zv_iret (ty := .boolean) rv9 G M (zn_Z bv9) dX1_isBranch_77 h
    refine zv_icmp_ne (tgt := 57) G (hw.a 110 _ (by decide)) (zr_k 3 (by decide) (by decide)) (by decide) dX1_isBranch_35 (fun c12 => ?_) (fun c12 => ?_)
    · refine zv_aload_n G rfl rfl dX1_isBranch_57 ?_
      refine zt_get (k := 89) (v := ar (D.ad 89 + 1)) G (by decide) q2244 rfl dX1_isBranch_58 ?_
      refine zv_iload_n G rfl rfl dX1_isBranch_61 ?_
      refine zt_iald (f := 89) G (by decide) rfl rx1 (o10.2 c12).1.1 (o10.2 c12).1.2 dX1_isBranch_62 ?_
      refine zv_aload_n G rfl rfl dX1_isBranch_63 ?_
      refine zt_get (k := 111) (v := ar (D.ad 111 + 1)) G (by decide) q2266 rfl dX1_isBranch_64 ?_
      refine zv_iload_n G rfl rfl dX1_isBranch_67 ?_
      refine zt_iald (f := 111) G (by decide) rfl rx3 (o10.2 c12).2.1 (o10.2 c12).2.2 dX1_isBranch_68 ?_
      refine zv_icmp_ne (tgt := 76) G (hw.a 89 _ (by decide)) (hw.a 111 _ (by decide)) (by decide) dX1_isBranch_69 (fun c13 => ?_) (fun c13 => ?_)
      · refine zv_iconst (a := 0) G (by decide) dX1_isBranch_76 ?_
        exact kj11 _ (by rw [if_neg c12, if_neg c13])
      · refine zv_iconst (a := 1) G (by decide) dX1_isBranch_72 ?_
        refine zv_goto (tgt := 77) G (by decide) dX1_isBranch_73 ?_
        exact kj11 _ (by rw [if_neg c12, if_pos c13])
    · refine zv_aload_n G rfl rfl dX1_isBranch_38 ?_
      refine zt_get (k := 89) (v := ar (D.ad 89 + 1)) G (by decide) q2244 rfl dX1_isBranch_39 ?_
      refine zv_iload_n G rfl rfl dX1_isBranch_42 ?_
      refine zt_iald (f := 89) G (by decide) rfl rx1 (o10.1 c12).1 (o10.1 c12).2 dX1_isBranch_43 ?_
      refine zv_bipush (a := (-4)) G (by decide) dX1_isBranch_44 ?_
      refine zv_icmp_ne (tgt := 53) G (hw.a 89 _ (by decide)) (zr_k (-4) (by decide) (by decide)) (by decide) dX1_isBranch_46 (fun c14 => ?_) (fun c14 => ?_)
      · refine zv_iconst (a := 0) G (by decide) dX1_isBranch_53 ?_
        refine zv_goto (tgt := 77) G (by decide) dX1_isBranch_54 ?_
        exact kj11 _ (by rw [if_pos c12, if_neg c14])
      · refine zv_iconst (a := 1) G (by decide) dX1_isBranch_49 ?_
        refine zv_goto (tgt := 77) G (by decide) dX1_isBranch_50 ?_
        exact kj11 _ (by rw [if_pos c12, if_pos c14])
  by_cases c21 : x2 = 4
  · have h := h.2.1 c21
    refine zv_tswI (tgt := 78) G dX1_isBranch_1 1 rx2 (by omega) (by omega) rfl (by decide) ?_
    refine zv_aload_n G rfl rfl dX1_isBranch_78 ?_
    refine zt_get (k := 89) (v := ar (D.ad 89 + 1)) G (by decide) q2244 rfl dX1_isBranch_79 ?_
    refine zv_iload_n G rfl rfl dX1_isBranch_82 ?_
    have o16 := h.1
    have h := h.2
    refine zt_iald (f := 89) G (by decide) rfl rx1 o16.1 o16.2 dX1_isBranch_83 ?_
    refine zv_aload_n G rfl rfl dX1_isBranch_84 ?_
    refine zt_get (k := 111) (v := ar (D.ad 111 + 1)) G (by decide) q2266 rfl dX1_isBranch_85 ?_
    refine zv_iload_n G rfl rfl dX1_isBranch_88 ?_
    have o17 := h.1
    have h := h.2
    refine zt_iald (f := 111) G (by decide) rfl rx3 o17.1 o17.2 dX1_isBranch_89 ?_
    have kj19 : ∀ v18 : Int, v18 = (if (tA w 89 x1) = (tA w 111 x3) then 1 else 0) → ZV Γ w 98 [(0, ar (D.x + 1)), (1, ai x1), (2, ai x2), (3, ai x3)] (ai v18 :: []) := by
      intro v18 ev18
      have h := h v18 ev18
      have rv18 : zr v18 := by rw [ev18]; exact (zr_ite (zr_k 1 (by decide) (by decide)) (zr_k 0 (by decide) (by decide)))
      have bv18 : v18 = 0 ∨ v18 = 1 := by rw [ev18]; exact (zb_ite (Or.inr rfl) (Or.inl rfl))
      exact zv_iret (ty := .boolean) rv18 G M (zn_Z bv18) dX1_isBranch_98 h
    refine zv_icmp_ne (tgt := 97) G (hw.a 89 _ (by decide)) (hw.a 111 _ (by decide)) (by decide) dX1_isBranch_90 (fun c20 => ?_) (fun c20 => ?_)
    · refine zv_iconst (a := 0) G (by decide) dX1_isBranch_97 ?_
      exact kj19 _ (if_neg c20).symm
    · refine zv_iconst (a := 1) G (by decide) dX1_isBranch_93 ?_
      refine zv_goto (tgt := 98) G (by decide) dX1_isBranch_94 ?_
      exact kj19 _ (if_pos c20).symm
  by_cases c28 : x2 = 5
  · have h := h.2.2.1 c28
    refine zv_tswI (tgt := 99) G dX1_isBranch_1 2 rx2 (by omega) (by omega) rfl (by decide) ?_
    refine zv_aload_n G rfl rfl dX1_isBranch_99 ?_
    refine zt_get (k := 92) (v := ar (D.ad 92 + 1)) G (by decide) q2247 rfl dX1_isBranch_100 ?_
    refine zv_iload_n G rfl rfl dX1_isBranch_103 ?_
    have o22 := h.1
    have h := h.2
    refine zt_zald (f := 92) G (by decide) rfl rx1 o22.1 o22.2 dX1_isBranch_104 ?_
    have o24 := h.1
    have h := h.2
    have kj25 : ∀ v23 : Int, v23 = (if ¬ ((tA w 92 x1) = 0) ∨ ((tA w 91 x1) = (tA w 112 x3)) then 1 else 0) → ZV Γ w 129 [(0, ar (D.x + 1)), (1, ai x1), (2, ai x2), (3, ai x3)] (ai v23 :: []) := by
      intro v23 ev23
      have h := h v23 ev23
      have rv23 : zr v23 := by rw [ev23]; exact (zr_ite (zr_k 1 (by decide) (by decide)) (zr_k 0 (by decide) (by decide)))
      have bv23 : v23 = 0 ∨ v23 = 1 := by rw [ev23]; exact (zb_ite (Or.inr rfl) (Or.inl rfl))
      exact zv_iret (ty := .boolean) rv23 G M (zn_Z bv23) dX1_isBranch_129 h
    refine zv_if_ne (tgt := 124) G (hw.a 92 _ (by decide)) (by decide) dX1_isBranch_105 (fun c26 => ?_) (fun c26 => ?_)
    · refine zv_iconst (a := 1) G (by decide) dX1_isBranch_124 ?_
      refine zv_goto (tgt := 129) G (by decide) dX1_isBranch_125 ?_
      exact kj25 _ (if_pos (Or.inl c26)).symm
    · refine zv_aload_n G rfl rfl dX1_isBranch_108 ?_
      refine zt_get (k := 91) (v := ar (D.ad 91 + 1)) G (by decide) q2246 rfl dX1_isBranch_109 ?_
      refine zv_iload_n G rfl rfl dX1_isBranch_112 ?_
      refine zt_lald (f := 91) G (by decide) rfl rx1 (o24 c26).1.1 (o24 c26).1.2 dX1_isBranch_113 ?_
      refine zv_aload_n G rfl rfl dX1_isBranch_114 ?_
      refine zt_get (k := 112) (v := ar (D.ad 112 + 1)) G (by decide) q2267 rfl dX1_isBranch_115 ?_
      refine zv_iload_n G rfl rfl dX1_isBranch_118 ?_
      refine zt_lald (f := 112) G (by decide) rfl rx3 (o24 c26).2.1 (o24 c26).2.2 dX1_isBranch_119 ?_
      refine zv_lcmp G (hw.al 91 _ (by decide)) (hw.al 112 _ (by decide)) dX1_isBranch_120 ?_
      refine zv_lif_ne (tgt := 128) G (by decide) dX1_isBranch_121 (fun c27 => ?_) (fun c27 => ?_)
      · refine zv_iconst (a := 0) G (by decide) dX1_isBranch_128 ?_
        exact kj25 _ (if_neg (fun q => q.elim (fun z => z c26) c27)).symm
      · refine zv_iconst (a := 1) G (by decide) dX1_isBranch_124 ?_
        refine zv_goto (tgt := 129) G (by decide) dX1_isBranch_125 ?_
        exact kj25 _ (if_pos (Or.inr c27)).symm
  have h := h.2.2.2 c15 c21 c28
  refine zv_tswO (tgt := 130) G dX1_isBranch_1 rx2 (by omega) (by decide) ?_
  refine zv_aload_n G rfl rfl dX1_isBranch_130 ?_
  refine zt_get (k := 111) (v := ar (D.ad 111 + 1)) G (by decide) q2266 rfl dX1_isBranch_131 ?_
  refine zv_iload_n G rfl rfl dX1_isBranch_134 ?_
  have o1 := h.1
  have h := h.2
  refine zt_iald (f := 111) G (by decide) rfl rx3 o1.1 o1.2 dX1_isBranch_135 ?_
  refine zv_aload_n G rfl rfl dX1_isBranch_136 ?_
  refine zt_get (k := 89) (v := ar (D.ad 89 + 1)) G (by decide) q2244 rfl dX1_isBranch_137 ?_
  refine zv_iload_n G rfl rfl dX1_isBranch_140 ?_
  have o2 := h.1
  have h := h.2
  refine zt_iald (f := 89) G (by decide) rfl rx1 o2.1 o2.2 dX1_isBranch_141 ?_
  have o4 := h.1
  have h := h.2
  have kj5 : ∀ v3 : Int, v3 = (if ¬ ((tA w 111 x3) < (tA w 89 x1)) ∧ (¬ ((tA w 90 x1) < (tA w 111 x3))) then 1 else 0) → ZV Γ w 165 [(0, ar (D.x + 1)), (1, ai x1), (2, ai x2), (3, ai x3)] (ai v3 :: []) := by
    intro v3 ev3
    have h := h v3 ev3
    have rv3 : zr v3 := by rw [ev3]; exact (zr_ite (zr_k 1 (by decide) (by decide)) (zr_k 0 (by decide) (by decide)))
    have bv3 : v3 = 0 ∨ v3 = 1 := by rw [ev3]; exact (zb_ite (Or.inr rfl) (Or.inl rfl))
    exact zv_iret (ty := .boolean) rv3 G M (zn_Z bv3) dX1_isBranch_165 h
  refine zv_icmp_lt (tgt := 164) G (hw.a 111 _ (by decide)) (hw.a 89 _ (by decide)) (by decide) dX1_isBranch_142 (fun c6 => ?_) (fun c6 => ?_)
  · refine zv_iconst (a := 0) G (by decide) dX1_isBranch_164 ?_
    exact kj5 _ (if_neg (fun q => q.1 c6)).symm
  · refine zv_aload_n G rfl rfl dX1_isBranch_145 ?_
    refine zt_get (k := 111) (v := ar (D.ad 111 + 1)) G (by decide) q2266 rfl dX1_isBranch_146 ?_
    refine zv_iload_n G rfl rfl dX1_isBranch_149 ?_
    refine zt_iald (f := 111) G (by decide) rfl rx3 (o4 c6).1.1 (o4 c6).1.2 dX1_isBranch_150 ?_
    refine zv_aload_n G rfl rfl dX1_isBranch_151 ?_
    refine zt_get (k := 90) (v := ar (D.ad 90 + 1)) G (by decide) q2245 rfl dX1_isBranch_152 ?_
    refine zv_iload_n G rfl rfl dX1_isBranch_155 ?_
    refine zt_iald (f := 90) G (by decide) rfl rx1 (o4 c6).2.1 (o4 c6).2.2 dX1_isBranch_156 ?_
    refine zv_icmp_gt (tgt := 164) G (hw.a 111 _ (by decide)) (hw.a 90 _ (by decide)) (by decide) dX1_isBranch_157 (fun c7 => ?_) (fun c7 => ?_)
    · refine zv_iconst (a := 0) G (by decide) dX1_isBranch_164 ?_
      exact kj5 _ (if_neg (fun q => (fun q => q c7) q.2)).symm
    · refine zv_iconst (a := 1) G (by decide) dX1_isBranch_160 ?_
      refine zv_goto (tgt := 165) G (by decide) dX1_isBranch_161 ?_
      exact kj5 _ (if_pos ⟨c6, c7⟩).symm
set_option maxHeartbeats 4000000 in
set_option maxRecDepth 100000 in
theorem cpT_byTree_103 {Γ : ZG TW} {D : TD} {B0 d : Nat} {lim : Nat × Nat} (G : ZOk Γ cX1_byTree RX1 6 (KnT D B0) (ZT D B0)) (M : ZRm Γ (d + 1) lim (some .int) "byTree" []) (S : SdT d D B0 Γ.l lim) (hk : 0 ≤ d) {x2 : Int} {x5 : Int} {w : TW} (rx2 : zr x2) (rx5 : zr x5) (h : pT_byTree_103 (wpT d) (fun v w => Γ.Q (.inl (some (ai v))) w) x2 x5 w) : ZV Γ w 103 [(0, ar (D.x + 1)), (2, ai x2), (5, ai x5)] [] := by
  refine zt_tok G (fun hw => ?_)
  refine zv_iload G rfl dX1_byTree_103 ?_
  refine zv_iconst (a := 1) G (by decide) dX1_byTree_105 ?_
  have o15 := h.1
  have h := h.2
  have kj16 : ∀ v14 : Int, v14 = (if x5 = 1 then tA w 81 x2 else (-4)) → ZV Γ w 120 [(0, ar (D.x + 1)), (2, ai x2), (5, ai x5)] (ai v14 :: []) := by
    intro v14 ev14
    have h := h v14 ev14
    have rv14 : zr v14 := by rw [ev14]; exact (zr_ite (hw.a 81 _ (by decide)) (zr_k (-4) (by decide) (by decide)))
    exact zv_iret (ty := .int) rv14 G M rfl dX1_byTree_120 h
  refine zv_icmp_ne (tgt := 118) G rx5 (zr_k 1 (by decide) (by decide)) (by decide) dX1_byTree_106 (fun c17 => ?_) (fun c17 => ?_)
  · refine zv_bipush (a := (-4)) G (by decide) dX1_byTree_118 ?_
    exact kj16 _ (if_neg c17).symm
  · refine zv_aload_n G rfl rfl dX1_byTree_109 ?_
    refine zt_get (k := 81) (v := ar (D.ad 81 + 1)) G (by decide) q2236 rfl dX1_byTree_110 ?_
    refine zv_iload_n G rfl rfl dX1_byTree_113 ?_
    refine zt_iald (f := 81) G (by decide) rfl rx2 (o15 c17).1 (o15 c17).2 dX1_byTree_114 ?_
    refine zv_goto (tgt := 120) G (by decide) dX1_byTree_115 ?_
    exact kj16 _ (if_pos c17).symm
set_option maxHeartbeats 4000000 in
set_option maxRecDepth 100000 in
theorem cpT_byTree_98 {Γ : ZG TW} {D : TD} {B0 d : Nat} {lim : Nat × Nat} (G : ZOk Γ cX1_byTree RX1 6 (KnT D B0) (ZT D B0)) (M : ZRm Γ (d + 1) lim (some .int) "byTree" []) (S : SdT d D B0 Γ.l lim) (hk : 0 ≤ d) {I6 : Int → TW → Prop} {x2 : Int} {x5 : Int} {w : TW} (hI6 : ∀ (x2 : Int) (w : TW), I6 x2 w → zr x2 → ZV Γ w 6 [(0, ar (D.x + 1)), (2, ai x2)] []) (rx2 : zr x2) (rx5 : zr x5) (h : pT_byTree_98 (wpT d) (fun v w => Γ.Q (.inl (some (ai v))) w) I6 x2 x5 w) : ZV Γ w 98 [(0, ar (D.x + 1)), (2, ai x2), (5, ai x5)] [] := by
  refine zt_tok G (fun hw => ?_)
  refine zv_iload G rfl dX1_byTree_98 ?_
  refine zv_if_le (tgt := 121) G rx5 (by decide) dX1_byTree_100 (fun c11 => ?_) (fun c11 => ?_)
  · have h := h.1 c11
    refine zv_aload_n G rfl rfl dX1_byTree_121 ?_
    refine zt_get (k := 86) (v := ar (D.ad 86 + 1)) G (by decide) q2241 rfl dX1_byTree_122 ?_
    refine zv_iload_n G rfl rfl dX1_byTree_125 ?_
    have o12 := h.1
    have h := h.2
    refine zt_iald (f := 86) G (by decide) rfl rx2 o12.1 o12.2 dX1_byTree_126 ?_
    refine zv_istore_nN G rfl (by decide) dX1_byTree_127 (fun x2_13 ex2_13 => ?_)
    have h := h x2_13 ex2_13
    have rx2_13 : zr x2_13 := by rw [ex2_13]; exact (hw.a 86 _ (by decide))
    refine zv_goto (tgt := 6) G (by decide) dX1_byTree_128 ?_
    exact zv_pick [0, 2] rfl (hI6 _ _ h rx2_13)
  · have h := h.2 c11
    exact zv_pick [0, 2, 5] rfl (cpT_byTree_103 G M S hk rx2 rx5 h)
set_option maxHeartbeats 4000000 in
set_option maxRecDepth 100000 in
theorem cpT_byTree_72 {Γ : ZG TW} {D : TD} {B0 d : Nat} {lim : Nat × Nat} (G : ZOk Γ cX1_byTree RX1 6 (KnT D B0) (ZT D B0)) (M : ZRm Γ (d + 1) lim (some .int) "byTree" []) (S : SdT d D B0 Γ.l lim) (hk : 0 ≤ d) {I6 : Int → TW → Prop} {x2 : Int} {s0 : Int} {w : TW} (hI6 : ∀ (x2 : Int) (w : TW), I6 x2 w → zr x2 → ZV Γ w 6 [(0, ar (D.x + 1)), (2, ai x2)] []) (rx2 : zr x2) (rs0 : zr s0) (h : pT_byTree_72 (wpT d) (fun v w => Γ.Q (.inl (some (ai v))) w) I6 x2 s0 w) : ZV Γ w 72 [(0, ar (D.x + 1)), (2, ai x2)] [ai s0] := by
  refine zt_tok G (fun hw => ?_)
  refine zv_istore G (by decide) rfl dX1_byTree_72 ?_
  refine zv_iload G rfl dX1_byTree_74 ?_
  refine zv_iconst (a := 2) G (by decide) dX1_byTree_76 ?_
  refine zv_icmp_ne (tgt := 98) G rs0 (zr_k 2 (by decide) (by decide)) (by decide) dX1_byTree_77 (fun c10 => ?_) (fun c10 => ?_)
  · have h := h.2 c10
    exact zv_pick [0, 2, 5] rfl (cpT_byTree_98 G M S hk hI6 rx2 rs0 h)
  · have h := h.1 c10
    refine zv_aload_n G rfl rfl dX1_byTree_80 ?_
    refine zv_iconst (a := 3) G (by decide) dX1_byTree_81 ?_
    refine zt_putI (k := 119) G (by decide) q2274 rfl (tyX1_ok 119 (by decide)) rfl (zr_k 3 (by decide) (by decide)) dX1_byTree_82 (fun u18 eu18 => ?_)
    have h := h u18 eu18
    refine zt_tok G (fun hu18 => ?_)
    refine zv_aload_n G rfl rfl dX1_byTree_85 ?_
    refine zv_aload_n G rfl rfl dX1_byTree_86 ?_
    refine zt_get (k := 81) (v := ar (D.ad 81 + 1)) G (by decide) q2236 rfl dX1_byTree_87 ?_
    refine zv_iload_n G rfl rfl dX1_byTree_90 ?_
    have o19 := h.1
    have h := h.2
    refine zt_iald (f := 81) G (by decide) rfl rx2 o19.1 o19.2 dX1_byTree_91 ?_
    refine zv_bipush (a := 16) G (by decide) dX1_byTree_92 ?_
    refine zv_irem G (zr_k 16 (by decide) (by decide)) (by decide) dX1_byTree_94 ?_
    refine zt_putI (k := 125) G (by decide) q2280 rfl (tyX1_ok 125 (by decide)) rfl (by first | exact i_and_r _ _ | exact i_or_r _ _ | exact i_shl_r _ _ | exact i_shr_r _ _ | exact i_ushr_r _ _ | exact i_b_r _ | exact i_c_r _ | exact i_xor_r _ _ | exact i_div_r _ _ | exact i_rem_r _ _ | exact zr_of _) dX1_byTree_95 (fun u20 eu20 => ?_)
    have h := h u20 eu20
    refine zt_tok G (fun hu20 => ?_)
    exact zv_pick [0, 2, 5] rfl (cpT_byTree_98 G M S hk hI6 rx2 rs0 h)
set_option maxHeartbeats 4000000 in
set_option maxRecDepth 100000 in
theorem cpT_byTree_35 {Γ : ZG TW} {D : TD} {B0 d : Nat} {lim : Nat × Nat} (G : ZOk Γ cX1_byTree RX1 6 (KnT D B0) (ZT D B0)) (M : ZRm Γ (d + 1) lim (some .int) "byTree" []) (S : SdT d D B0 Γ.l lim) (hk : 0 ≤ d) {I6 : Int → TW → Prop} {x2 : Int} {x3 : Int} {w : TW} (hI6 : ∀ (x2 : Int) (w : TW), I6 x2 w → zr x2 → ZV Γ w 6 [(0, ar (D.x + 1)), (2, ai x2)] []) (rx2 : zr x2) (rx3 : zr x3) (h : pT_byTree_35 (wpT d) (fun v w => Γ.Q (.inl (some (ai v))) w) I6 x2 x3 w) : ZV Γ w 35 [(0, ar (D.x + 1)), (2, ai x2), (3, ai x3)] [] := by
  refine zt_tok G (fun hw => ?_)
  refine zv_aload_n G rfl rfl dX1_byTree_35 ?_
  refine zv_aload_n G rfl rfl dX1_byTree_36 ?_
  refine zt_get (k := 81) (v := ar (D.ad 81 + 1)) G (by decide) q2236 rfl dX1_byTree_37 ?_
  refine zv_iload_n G rfl rfl dX1_byTree_40 ?_
  have o5 := h.1
  have h := h.2
  refine zt_iald (f := 81) G (by decide) rfl rx2 o5.1 o5.2 dX1_byTree_41 ?_
  refine zv_aload_n G rfl rfl dX1_byTree_42 ?_
  refine zt_get (k := 82) (v := ar (D.ad 82 + 1)) G (by decide) q2237 rfl dX1_byTree_43 ?_
  refine zv_iload_n G rfl rfl dX1_byTree_46 ?_
  have o6 := h.1
  have h := h.2
  refine zt_iald (f := 82) G (by decide) rfl rx2 o6.1 o6.2 dX1_byTree_47 ?_
  refine zt_callI (as := [ai (tA w 81 x2), ai (tA w 82 x2)]) G M (S 91 _ rfl _ _ _ h (zoks_cons (hw.a 81 _ (by decide)) (zoks_cons (hw.a 82 _ (by decide)) zoks_nil))) q2934 q2936 qs133 q2937 md_binds0 rfl (by decide) (Nat.le_of_ble_eq_true rfl) dX1_byTree_48 (fun v8 u7 rv8 h => ?_)
  refine zt_tok G (fun hu7 => ?_)
  refine zv_istore G (by decide) rfl dX1_byTree_51 ?_
  refine zv_iload_n G rfl rfl dX1_byTree_53 ?_
  refine zv_iconst (a := 2) G (by decide) dX1_byTree_54 ?_
  refine zv_icmp_ne (tgt := 71) G rx3 (zr_k 2 (by decide) (by decide)) (by decide) dX1_byTree_55 (fun c9 => ?_) (fun c9 => ?_)
  · have h := h.2 c9
    refine zv_iconst (a := 1) G (by decide) dX1_byTree_71 ?_
    exact zv_pick [0, 2] rfl (cpT_byTree_72 G M S hk hI6 rx2 (zr_k 1 (by decide) (by decide)) h)
  · have h := h.1 c9
    refine zv_aload_n G rfl rfl dX1_byTree_58 ?_
    refine zv_aload_n G rfl rfl dX1_byTree_59 ?_
    refine zt_get (k := 81) (v := ar (D.ad 81 + 1)) G (by decide) q2236 rfl dX1_byTree_60 ?_
    refine zv_iload_n G rfl rfl dX1_byTree_63 ?_
    have o21 := h.1
    have h := h.2
    refine zt_iald (f := 81) G (by decide) rfl rx2 o21.1 o21.2 dX1_byTree_64 ?_
    refine zt_callI (as := [ai (tA u7 81 x2)]) G M (S 93 _ rfl _ _ _ h (zoks_cons (hu7.a 81 _ (by decide)) zoks_nil)) q2942 q2944 qs135 q2945 md_guarded rfl (by decide) (Nat.le_of_ble_eq_true rfl) dX1_byTree_65 (fun v23 u22 rv23 h => ?_)
    refine zt_tok G (fun hu22 => ?_)
    refine zv_goto (tgt := 72) G (by decide) dX1_byTree_68 ?_
    exact zv_pick [0, 2] rfl (cpT_byTree_72 G M S hk hI6 rx2 rv23 h)
set_option maxHeartbeats 4000000 in
set_option maxRecDepth 100000 in
theorem cpT_byTree_193 {Γ : ZG TW} {D : TD} {B0 d : Nat} {lim : Nat × Nat} (G : ZOk Γ cX1_byTree RX1 6 (KnT D B0) (ZT D B0)) (M : ZRm Γ (d + 1) lim (some .int) "byTree" []) (S : SdT d D B0 Γ.l lim) (hk : 0 ≤ d) {w : TW} (h : pT_byTree_193 (wpT d) (fun v w => Γ.Q (.inl (some (ai v))) w) w) : ZV Γ w 193 [(0, ar (D.x + 1))] [] := by
  refine zt_tok G (fun hw => ?_)
  refine zv_aload_n G rfl rfl dX1_byTree_193 ?_
  refine zv_iconst (a := 2) G (by decide) dX1_byTree_194 ?_
  refine zt_putI (k := 119) G (by decide) q2274 rfl (tyX1_ok 119 (by decide)) rfl (zr_k 2 (by decide) (by decide)) dX1_byTree_195 (fun u32 eu32 => ?_)
  have h := h u32 eu32
  refine zt_tok G (fun hu32 => ?_)
  refine zv_bipush (a := (-4)) G (by decide) dX1_byTree_198 ?_
  exact zv_iret (ty := .int) (zr_k (-4) (by decide) (by decide)) G M rfl dX1_byTree_200 h
set_option maxHeartbeats 4000000 in
set_option maxRecDepth 100000 in
theorem cpT_byTree_187 {Γ : ZG TW} {D : TD} {B0 d : Nat} {lim : Nat × Nat} (G : ZOk Γ cX1_byTree RX1 6 (KnT D B0) (ZT D B0)) (M : ZRm Γ (d + 1) lim (some .int) "byTree" []) (S : SdT d D B0 Γ.l lim) (hk : 0 ≤ d) {I6 : Int → TW → Prop} {x2 : Int} {w : TW} (hI6 : ∀ (x2 : Int) (w : TW), I6 x2 w → zr x2 → ZV Γ w 6 [(0, ar (D.x + 1)), (2, ai x2)] []) (rx2 : zr x2) (h : pT_byTree_187 (wpT d) (fun v w => Γ.Q (.inl (some (ai v))) w) I6 x2 w) : ZV Γ w 187 [(0, ar (D.x + 1)), (2, ai x2)] [] := by
  refine zt_tok G (fun hw => ?_)
  refine zv_iload_n G rfl rfl dX1_byTree_187 ?_
  refine zv_bipush (a := (-4)) G (by decide) dX1_byTree_188 ?_
  refine zv_icmp_ne (tgt := 201) G rx2 (zr_k (-4) (by decide) (by decide)) (by decide) dX1_byTree_190 (fun c31 => ?_) (fun c31 => ?_)
  · have h := h.2 c31
    refine zv_goto (tgt := 6) G (by decide) dX1_byTree_201 ?_
    exact zv_pick [0, 2] rfl (hI6 _ _ h rx2)
  · have h := h.1 c31
    exact zv_pick [0] rfl (cpT_byTree_193 G M S hk h)
set_option maxHeartbeats 4000000 in
set_option maxRecDepth 100000 in
theorem cpT_byTree_160 {Γ : ZG TW} {D : TD} {B0 d : Nat} {lim : Nat × Nat} (G : ZOk Γ cX1_byTree RX1 6 (KnT D B0) (ZT D B0)) (M : ZRm Γ (d + 1) lim (some .int) "byTree" []) (S : SdT d D B0 Γ.l lim) (hk : 0 ≤ d) {I6 : Int → TW → Prop} {x2 : Int} {x3 : Int} {x4 : Int} {w : TW} (hI6 : ∀ (x2 : Int) (w : TW), I6 x2 w → zr x2 → ZV Γ w 6 [(0, ar (D.x + 1)), (2, ai x2)] []) (rx2 : zr x2) (rx3 : zr x3) (rx4 : zr x4) (h : pT_byTree_160 (wpT d) (fun v w => Γ.Q (.inl (some (ai v))) w) I6 x2 x3 x4 w) : ZV Γ w 160 [(0, ar (D.x + 1)), (2, ai x2), (3, ai x3), (4, ai x4)] [] := by
  refine h (fun x2 w => zr x2 → ZV Γ w 160 [(0, ar (D.x + 1)), (2, ai x2), (3, ai x3), (4, ai x4)] []) ?_ rx2
  clear h
  intro x2 w h rx2
  have hI160 : ∀ (x2 : Int) (w : TW), (fun x2 w => zr x2 → ZV Γ w 160 [(0, ar (D.x + 1)), (2, ai x2), (3, ai x3), (4, ai x4)] []) x2 w → zr x2 → ZV Γ w 160 [(0, ar (D.x + 1)), (2, ai x2), (3, ai x3), (4, ai x4)] [] := fun _ _ z => z
  refine zt_tok G (fun hw => ?_)
  refine zv_iload_n G rfl rfl dX1_byTree_160 ?_
  refine zv_bipush (a := (-4)) G (by decide) dX1_byTree_161 ?_
  refine zv_icmp_eq (tgt := 187) G rx2 (zr_k (-4) (by decide) (by decide)) (by decide) dX1_byTree_163 (fun c30 => ?_) (fun c30 => ?_)
  · have h := h.1 c30
    exact zv_pick [0, 2] rfl (cpT_byTree_187 G M S hk hI6 rx2 h)
  · have h := h.2 c30
    refine zv_aload_n G rfl rfl dX1_byTree_166 ?_
    refine zv_iload_n G rfl rfl dX1_byTree_167 ?_
    refine zv_iload_n G rfl rfl dX1_byTree_168 ?_
    refine zv_iload G rfl dX1_byTree_169 ?_
    refine zt_callI (as := [ai x2, ai x3, ai x4]) G M (S 98 _ rfl _ _ _ h (zoks_cons rx2 (zoks_cons rx3 (zoks_cons rx4 zoks_nil)))) q2962 q2964 qs140 q2965 md_isBranch rfl (by decide) (Nat.le_of_ble_eq_true rfl) dX1_byTree_171 (fun v34 u33 rv34 h => ?_)
    refine zt_tok G (fun hu33 => ?_)
    refine zv_if_ne (tgt := 187) G rv34 (by decide) dX1_byTree_174 (fun c35 => ?_) (fun c35 => ?_)
    · have h := h.2 c35
      exact zv_pick [0, 2] rfl (cpT_byTree_187 G M S hk hI6 rx2 h)
    · have h := h.1 c35
      refine zv_aload_n G rfl rfl dX1_byTree_177 ?_
      refine zt_get (k := 88) (v := ar (D.ad 88 + 1)) G (by decide) q2243 rfl dX1_byTree_178 ?_
      refine zv_iload_n G rfl rfl dX1_byTree_181 ?_
      have o36 := h.1
      have h := h.2
      refine zt_iald (f := 88) G (by decide) rfl rx2 o36.1 o36.2 dX1_byTree_182 ?_
      refine zv_istore_nN G rfl (by decide) dX1_byTree_183 (fun x2_37 ex2_37 => ?_)
      have h := h x2_37 ex2_37
      have rx2_37 : zr x2_37 := by rw [ex2_37]; exact (hu33.a 88 _ (by decide))
      refine zv_goto (tgt := 160) G (by decide) dX1_byTree_184 ?_
      exact zv_pick [0, 2, 3, 4] rfl (hI160 _ _ h rx2_37)
set_option maxHeartbeats 4000000 in
set_option maxRecDepth 100000 in
theorem cpT_byTree_17 {Γ : ZG TW} {D : TD} {B0 d : Nat} {lim : Nat × Nat} (G : ZOk Γ cX1_byTree RX1 6 (KnT D B0) (ZT D B0)) (M : ZRm Γ (d + 1) lim (some .int) "byTree" []) (S : SdT d D B0 Γ.l lim) (hk : 0 ≤ d) {w : TW} (h : pT_byTree_17 (wpT d) (fun v w => Γ.Q (.inl (some (ai v))) w) w) : ZV Γ w 17 [(0, ar (D.x + 1))] [] := by
  refine zt_tok G (fun hw => ?_)
  refine zv_aload_n G rfl rfl dX1_byTree_17 ?_
  refine zv_iconst (a := 1) G (by decide) dX1_byTree_18 ?_
  refine zt_putI (k := 119) G (by decide) q2274 rfl (tyX1_ok 119 (by decide)) rfl (zr_k 1 (by decide) (by decide)) dX1_byTree_19 (fun u43 eu43 => ?_)
  have h := h u43 eu43
  refine zt_tok G (fun hu43 => ?_)
  refine zv_bipush (a := (-4)) G (by decide) dX1_byTree_22 ?_
  exact zv_iret (ty := .int) (zr_k (-4) (by decide) (by decide)) G M rfl dX1_byTree_24 h
set_option maxHeartbeats 4000000 in
set_option maxRecDepth 100000 in
theorem cpT_byTree_6 {Γ : ZG TW} {D : TD} {B0 d : Nat} {lim : Nat × Nat} (G : ZOk Γ cX1_byTree RX1 6 (KnT D B0) (ZT D B0)) (M : ZRm Γ (d + 1) lim (some .int) "byTree" []) (S : SdT d D B0 Γ.l lim) (hk : 0 ≤ d) {x2 : Int} {w : TW} (rx2 : zr x2) (h : pT_byTree_6 (wpT d) (fun v w => Γ.Q (.inl (some (ai v))) w) x2 w) : ZV Γ w 6 [(0, ar (D.x + 1)), (2, ai x2)] [] := by
  refine h (fun x2 w => zr x2 → ZV Γ w 6 [(0, ar (D.x + 1)), (2, ai x2)] []) ?_ rx2
  clear h
  intro x2 w h rx2
  have hI6 : ∀ (x2 : Int) (w : TW), (fun x2 w => zr x2 → ZV Γ w 6 [(0, ar (D.x + 1)), (2, ai x2)] []) x2 w → zr x2 → ZV Γ w 6 [(0, ar (D.x + 1)), (2, ai x2)] [] := fun _ _ z => z
  refine zt_tok G (fun hw => ?_)
  refine zv_aload_n G rfl rfl dX1_byTree_6 ?_
  refine zt_get (k := 80) (v := ar (D.ad 80 + 1)) G (by decide) q2235 rfl dX1_byTree_7 ?_
  refine zv_iload_n G rfl rfl dX1_byTree_10 ?_
  have o2 := h.1
  have h := h.2
  refine zt_iald (f := 80) G (by decide) rfl rx2 o2.1 o2.2 dX1_byTree_11 ?_
  refine zv_istore_nN G rfl (by decide) dX1_byTree_12 (fun x3_3 ex3_3 => ?_)
  have h := h x3_3 ex3_3
  have rx3_3 : zr x3_3 := by rw [ex3_3]; exact (hw.a 80 _ (by decide))
  refine zv_iload_n G rfl rfl dX1_byTree_13 ?_
  refine zv_if_ne (tgt := 25) G rx3_3 (by decide) dX1_byTree_14 (fun c4 => ?_) (fun c4 => ?_)
  · have h := h.2 c4
    refine zv_iload_n G rfl rfl dX1_byTree_25 ?_
    refine zv_iconst (a := 1) G (by decide) dX1_byTree_26 ?_
    have kt38 : (x3_3 = 1) ∨ (x3_3 = 2) → ZV Γ w 35 [(3, ai x3_3), (0, ar (D.x + 1)), (2, ai x2)] [] := by
      intro c40
      have h := h.1 c40
      exact zv_pick [0, 2, 3] rfl (cpT_byTree_35 G M S hk hI6 rx2 rx3_3 h)
    have kf39 : ¬ ((x3_3 = 1) ∨ (x3_3 = 2)) → ZV Γ w 131 [(3, ai x3_3), (0, ar (D.x + 1)), (2, ai x2)] [] := by
      intro c40
      have h := h.2 c40
      refine zv_aload_n G rfl rfl dX1_byTree_131 ?_
      refine zv_dup G rfl dX1_byTree_132 ?_
      refine zt_get (k := 122) (v := ai (tI w 122)) G (by decide) q2277 rfl dX1_byTree_133 ?_
      refine zv_iconst (a := 1) G (by decide) dX1_byTree_136 ?_
      refine zv_iadd G dX1_byTree_137 ?_
      refine zt_putI (k := 122) G (by decide) q2277 rfl (tyX1_ok 122 (by decide)) rfl (w32_r _) dX1_byTree_138 (fun u24 eu24 => ?_)
      have h := h u24 eu24
      refine zt_tok G (fun hu24 => ?_)
      refine zv_aload_n G rfl rfl dX1_byTree_141 ?_
      refine zv_aload_n G rfl rfl dX1_byTree_142 ?_
      refine zt_get (k := 83) (v := ar (D.ad 83 + 1)) G (by decide) q2238 rfl dX1_byTree_143 ?_
      refine zv_iload_n G rfl rfl dX1_byTree_146 ?_
      have o25 := h.1
      have h := h.2
      refine zt_iald (f := 83) G (by decide) rfl rx2 o25.1 o25.2 dX1_byTree_147 ?_
      refine zt_callI (as := [ai (tA u24 83 x2)]) G M (S 97 _ rfl _ _ _ h (zoks_cons (hu24.a 83 _ (by decide)) zoks_nil)) q2958 q2960 qs139 q2961 md_standing rfl (by decide) (Nat.le_of_ble_eq_true rfl) dX1_byTree_148 (fun v27 u26 rv27 h => ?_)
      refine zt_tok G (fun hu26 => ?_)
      refine zv_istore G (by decide) rfl dX1_byTree_151 ?_
      refine zv_aload_n G rfl rfl dX1_byTree_153 ?_
      refine zt_get (k := 86) (v := ar (D.ad 86 + 1)) G (by decide) q2241 rfl dX1_byTree_154 ?_
      refine zv_iload_n G rfl rfl dX1_byTree_157 ?_
      have o28 := h.1
      have h := h.2
      refine zt_iald (f := 86) G (by decide) rfl rx2 o28.1 o28.2 dX1_byTree_158 ?_
      refine zv_istore_nN G rfl (by decide) dX1_byTree_159 (fun x2_29 ex2_29 => ?_)
      have h := h x2_29 ex2_29
      have rx2_29 : zr x2_29 := by rw [ex2_29]; exact (hu26.a 86 _ (by decide))
      exact zv_pick [0, 2, 3, 4] rfl (cpT_byTree_160 G M S hk hI6 rx2_29 rx3_3 rv27 h)
    refine zv_icmp_eq (tgt := 35) G rx3_3 (zr_k 1 (by decide) (by decide)) (by decide) dX1_byTree_27 (fun c41 => ?_) (fun c41 => ?_)
    · exact kt38 (Or.inl c41)
    · refine zv_iload_n G rfl rfl dX1_byTree_30 ?_
      refine zv_iconst (a := 2) G (by decide) dX1_byTree_31 ?_
      refine zv_icmp_ne (tgt := 131) G rx3_3 (zr_k 2 (by decide) (by decide)) (by decide) dX1_byTree_32 (fun c42 => ?_) (fun c42 => ?_)
      · exact kf39 (fun q => q.elim c41 c42)
      · exact kt38 (Or.inr c42)
  · have h := h.1 c4
    exact zv_pick [0] rfl (cpT_byTree_17 G M S hk h)
set_option maxHeartbeats 4000000 in
set_option maxRecDepth 100000 in
theorem cpT_byTree_0 {Γ : ZG TW} {D : TD} {B0 d : Nat} {lim : Nat × Nat} (G : ZOk Γ cX1_byTree RX1 6 (KnT D B0) (ZT D B0)) (M : ZRm Γ (d + 1) lim (some .int) "byTree" []) (S : SdT d D B0 Γ.l lim) (hk : 0 ≤ d) {x1 : Int} {w : TW} (rx1 : zr x1) (h : pT_byTree_0 (wpT d) (fun v w => Γ.Q (.inl (some (ai v))) w) x1 w) : ZV Γ w 0 [(0, ar (D.x + 1)), (1, ai x1)] [] := by
  refine zt_tok G (fun hw => ?_)
  refine zv_sipush (a := 300) G (by decide) dX1_byTree_0 ?_
  refine zv_iload_n G rfl rfl dX1_byTree_3 ?_
  refine zv_imul G dX1_byTree_4 ?_
  refine zv_istore_nN G rfl (by decide) dX1_byTree_5 (fun x2_1 ex2_1 => ?_)
  have h := h x2_1 ex2_1
  have rx2_1 : zr x2_1 := by rw [ex2_1]; exact (w32_r _)
  exact zv_pick [0, 2] rfl (cpT_byTree_6 G M S hk rx2_1 h)
set_option maxHeartbeats 4000000 in
set_option maxRecDepth 100000 in
theorem cpT_byRules_116 {Γ : ZG TW} {D : TD} {B0 d : Nat} {lim : Nat × Nat} (G : ZOk Γ cX1_byRules RX1 5 (KnT D B0) (ZT D B0)) (M : ZRm Γ (d + 1) lim (some .int) "byRules" []) (S : SdT d D B0 Γ.l lim) (hk : 0 ≤ d) {w : TW} (h : pT_byRules_116 (wpT d) (fun v w => Γ.Q (.inl (some (ai v))) w) w) : ZV Γ w 116 [(0, ar (D.x + 1))] [] := by
  refine zt_tok G (fun hw => ?_)
  refine zv_aload_n G rfl rfl dX1_byRules_116 ?_
  refine zv_iconst (a := 1) G (by decide) dX1_byRules_117 ?_
  refine zt_putI (k := 119) G (by decide) q2274 rfl (tyX1_ok 119 (by decide)) rfl (zr_k 1 (by decide) (by decide)) dX1_byRules_118 (fun u4 eu4 => ?_)
  have h := h u4 eu4
  refine zt_tok G (fun hu4 => ?_)
  refine zv_bipush (a := (-4)) G (by decide) dX1_byRules_121 ?_
  exact zv_iret (ty := .int) (zr_k (-4) (by decide) (by decide)) G M rfl dX1_byRules_123 h
set_option maxHeartbeats 4000000 in
set_option maxRecDepth 100000 in
theorem cpT_byRules_110 {Γ : ZG TW} {D : TD} {B0 d : Nat} {lim : Nat × Nat} (G : ZOk Γ cX1_byRules RX1 5 (KnT D B0) (ZT D B0)) (M : ZRm Γ (d + 1) lim (some .int) "byRules" []) (S : SdT d D B0 Γ.l lim) (hk : 0 ≤ d) {I5 : Int → TW → Prop} {x1 : Int} {x2 : Int} {w : TW} (hI5 : ∀ (x2 : Int) (w : TW), I5 x2 w → zr x2 → ZV Γ w 5 [(0, ar (D.x + 1)), (1, ai x1), (2, ai x2)] []) (rx1 : zr x1) (rx2 : zr x2) (h : pT_byRules_110 (wpT d) (fun v w => Γ.Q (.inl (some (ai v))) w) I5 x1 x2 w) : ZV Γ w 110 [(0, ar (D.x + 1)), (1, ai x1), (2, ai x2)] [] := by
  refine zt_tok G (fun hw => ?_)
  refine zv_iincN G rfl (by decide) dX1_byRules_110 (fun x2_13 ex2_13 => ?_)
  have h := h x2_13 ex2_13
  have rx2_13 : zr x2_13 := by rw [ex2_13]; exact w32_r _
  refine zv_goto (tgt := 5) G (by decide) dX1_byRules_113 ?_
  exact zv_pick [0, 1, 2] rfl (hI5 _ _ h rx2_13)
set_option maxHeartbeats 4000000 in
set_option maxRecDepth 100000 in
theorem cpT_byRules_108 {Γ : ZG TW} {D : TD} {B0 d : Nat} {lim : Nat × Nat} (G : ZOk Γ cX1_byRules RX1 5 (KnT D B0) (ZT D B0)) (M : ZRm Γ (d + 1) lim (some .int) "byRules" []) (S : SdT d D B0 Γ.l lim) (hk : 0 ≤ d) {x2 : Int} {w : TW} (rx2 : zr x2) (h : pT_byRules_108 (wpT d) (fun v w => Γ.Q (.inl (some (ai v))) w) x2 w) : ZV Γ w 108 [(2, ai x2)] [] := by
  refine zt_tok G (fun hw => ?_)
  refine zv_iload_n G rfl rfl dX1_byRules_108 ?_
  exact zv_iret (ty := .int) rx2 G M rfl dX1_byRules_109 h
set_option maxHeartbeats 4000000 in
set_option maxRecDepth 100000 in
theorem cpT_byRules_86 {Γ : ZG TW} {D : TD} {B0 d : Nat} {lim : Nat × Nat} (G : ZOk Γ cX1_byRules RX1 5 (KnT D B0) (ZT D B0)) (M : ZRm Γ (d + 1) lim (some .int) "byRules" []) (S : SdT d D B0 Γ.l lim) (hk : 0 ≤ d) {x2 : Int} {w : TW} (rx2 : zr x2) (h : pT_byRules_86 (wpT d) (fun v w => Γ.Q (.inl (some (ai v))) w) x2 w) : ZV Γ w 86 [(0, ar (D.x + 1)), (2, ai x2)] [] := by
  refine zt_tok G (fun hw => ?_)
  refine zv_aload_n G rfl rfl dX1_byRules_86 ?_
  refine zv_iconst (a := 3) G (by decide) dX1_byRules_87 ?_
  refine zt_putI (k := 119) G (by decide) q2274 rfl (tyX1_ok 119 (by decide)) rfl (zr_k 3 (by decide) (by decide)) dX1_byRules_88 (fun u14 eu14 => ?_)
  have h := h u14 eu14
  refine zt_tok G (fun hu14 => ?_)
  refine zv_aload_n G rfl rfl dX1_byRules_91 ?_
  refine zv_iload_n G rfl rfl dX1_byRules_92 ?_
  refine zv_bipush (a := 16) G (by decide) dX1_byRules_93 ?_
  refine zv_irem G (zr_k 16 (by decide) (by decide)) (by decide) dX1_byRules_95 ?_
  refine zt_putI (k := 125) G (by decide) q2280 rfl (tyX1_ok 125 (by decide)) rfl (by first | exact i_and_r _ _ | exact i_or_r _ _ | exact i_shl_r _ _ | exact i_shr_r _ _ | exact i_ushr_r _ _ | exact i_b_r _ | exact i_c_r _ | exact i_xor_r _ _ | exact i_div_r _ _ | exact i_rem_r _ _ | exact zr_of _) dX1_byRules_96 (fun u15 eu15 => ?_)
  have h := h u15 eu15
  refine zt_tok G (fun hu15 => ?_)
  refine zv_bipush (a := (-4)) G (by decide) dX1_byRules_99 ?_
  exact zv_iret (ty := .int) (zr_k (-4) (by decide) (by decide)) G M rfl dX1_byRules_101 h
set_option maxHeartbeats 4000000 in
set_option maxRecDepth 100000 in
theorem cpT_byRules_78 {Γ : ZG TW} {D : TD} {B0 d : Nat} {lim : Nat × Nat} (G : ZOk Γ cX1_byRules RX1 5 (KnT D B0) (ZT D B0)) (M : ZRm Γ (d + 1) lim (some .int) "byRules" []) (S : SdT d D B0 Γ.l lim) (hk : 0 ≤ d) {I5 : Int → TW → Prop} {x1 : Int} {x2 : Int} {s0 : Int} {w : TW} (hI5 : ∀ (x2 : Int) (w : TW), I5 x2 w → zr x2 → ZV Γ w 5 [(0, ar (D.x + 1)), (1, ai x1), (2, ai x2)] []) (rx1 : zr x1) (rx2 : zr x2) (rs0 : zr s0) (h : pT_byRules_78 (wpT d) (fun v w => Γ.Q (.inl (some (ai v))) w) I5 x1 x2 s0 w) : ZV Γ w 78 [(0, ar (D.x + 1)), (1, ai x1), (2, ai x2)] [ai s0] := by
  refine zt_tok G (fun hw => ?_)
  refine zv_istore G (by decide) rfl dX1_byRules_78 ?_
  refine zv_iload G rfl dX1_byRules_80 ?_
  refine zv_iconst (a := 2) G (by decide) dX1_byRules_82 ?_
  refine zv_icmp_ne (tgt := 102) G rs0 (zr_k 2 (by decide) (by decide)) (by decide) dX1_byRules_83 (fun c11 => ?_) (fun c11 => ?_)
  · have h := h.2 c11
    refine zv_iload G rfl dX1_byRules_102 ?_
    refine zv_iconst (a := 1) G (by decide) dX1_byRules_104 ?_
    refine zv_icmp_ne (tgt := 110) G rs0 (zr_k 1 (by decide) (by decide)) (by decide) dX1_byRules_105 (fun c12 => ?_) (fun c12 => ?_)
    · have h := h.2 c12
      exact zv_pick [0, 1, 2] rfl (cpT_byRules_110 G M S hk hI5 rx1 rx2 h)
    · have h := h.1 c12
      exact zv_pick [2] rfl (cpT_byRules_108 G M S hk rx2 h)
  · have h := h.1 c11
    exact zv_pick [0, 2] rfl (cpT_byRules_86 G M S hk rx2 h)
set_option maxHeartbeats 4000000 in
set_option maxRecDepth 100000 in
theorem cpT_byRules_47 {Γ : ZG TW} {D : TD} {B0 d : Nat} {lim : Nat × Nat} (G : ZOk Γ cX1_byRules RX1 5 (KnT D B0) (ZT D B0)) (M : ZRm Γ (d + 1) lim (some .int) "byRules" []) (S : SdT d D B0 Γ.l lim) (hk : 0 ≤ d) {I5 : Int → TW → Prop} {x1 : Int} {x2 : Int} {x3 : Int} {w : TW} (hI5 : ∀ (x2 : Int) (w : TW), I5 x2 w → zr x2 → ZV Γ w 5 [(0, ar (D.x + 1)), (1, ai x1), (2, ai x2)] []) (rx1 : zr x1) (rx2 : zr x2) (rx3 : zr x3) (h : pT_byRules_47 (wpT d) (fun v w => Γ.Q (.inl (some (ai v))) w) I5 x1 x2 x3 w) : ZV Γ w 47 [(0, ar (D.x + 1)), (1, ai x1), (2, ai x2), (3, ai x3)] [] := by
  refine zt_tok G (fun hw => ?_)
  refine zv_iload_n G rfl rfl dX1_byRules_47 ?_
  refine zv_aload_n G rfl rfl dX1_byRules_48 ?_
  refine zt_get (k := 49) (v := ar (D.ad 49 + 1)) G (by decide) q2204 rfl dX1_byRules_49 ?_
  refine zv_iload_n G rfl rfl dX1_byRules_52 ?_
  have o7 := h.1
  have h := h.2
  refine zt_iald (f := 49) G (by decide) rfl rx2 o7.1 o7.2 dX1_byRules_53 ?_
  refine zv_icmp_ne (tgt := 60) G rx3 (hw.a 49 _ (by decide)) (by decide) dX1_byRules_54 (fun c8 => ?_) (fun c8 => ?_)
  · have h := h.2 c8
    refine zv_aload_n G rfl rfl dX1_byRules_60 ?_
    refine zt_get (k := 53) (v := ar (D.ad 53 + 1)) G (by decide) q2208 rfl dX1_byRules_61 ?_
    refine zv_iload_n G rfl rfl dX1_byRules_64 ?_
    have o9 := h.1
    have h := h.2
    refine zt_iald (f := 53) G (by decide) rfl rx2 o9.1 o9.2 dX1_byRules_65 ?_
    refine zv_if_eq (tgt := 77) G (hw.a 53 _ (by decide)) (by decide) dX1_byRules_66 (fun c10 => ?_) (fun c10 => ?_)
    · have h := h.1 c10
      refine zv_iconst (a := 1) G (by decide) dX1_byRules_77 ?_
      exact zv_pick [0, 1, 2] rfl (cpT_byRules_78 G M S hk hI5 rx1 rx2 (zr_k 1 (by decide) (by decide)) h)
    · have h := h.2 c10
      refine zv_aload_n G rfl rfl dX1_byRules_69 ?_
      refine zv_iload_n G rfl rfl dX1_byRules_70 ?_
      refine zt_callI (as := [ai x2]) G M (S 93 _ rfl _ _ _ h (zoks_cons rx2 zoks_nil)) q2942 q2944 qs135 q2945 md_guarded rfl (by decide) (Nat.le_of_ble_eq_true rfl) dX1_byRules_71 (fun v17 u16 rv17 h => ?_)
      refine zt_tok G (fun hu16 => ?_)
      refine zv_goto (tgt := 78) G (by decide) dX1_byRules_74 ?_
      exact zv_pick [0, 1, 2] rfl (cpT_byRules_78 G M S hk hI5 rx1 rx2 rv17 h)
  · have h := h.1 c8
    refine zv_goto (tgt := 110) G (by decide) dX1_byRules_57 ?_
    exact zv_pick [0, 1, 2] rfl (cpT_byRules_110 G M S hk hI5 rx1 rx2 h)
set_option maxHeartbeats 4000000 in
set_option maxRecDepth 100000 in
theorem cpT_byRules_22 {Γ : ZG TW} {D : TD} {B0 d : Nat} {lim : Nat × Nat} (G : ZOk Γ cX1_byRules RX1 5 (KnT D B0) (ZT D B0)) (M : ZRm Γ (d + 1) lim (some .int) "byRules" []) (S : SdT d D B0 Γ.l lim) (hk : 0 ≤ d) {I5 : Int → TW → Prop} {x1 : Int} {x2 : Int} {x3 : Int} {w : TW} (hI5 : ∀ (x2 : Int) (w : TW), I5 x2 w → zr x2 → ZV Γ w 5 [(0, ar (D.x + 1)), (1, ai x1), (2, ai x2)] []) (rx1 : zr x1) (rx2 : zr x2) (rx3 : zr x3) (h : pT_byRules_22 (wpT d) (fun v w => Γ.Q (.inl (some (ai v))) w) I5 x1 x2 x3 w) : ZV Γ w 22 [(0, ar (D.x + 1)), (1, ai x1), (2, ai x2), (3, ai x3)] [] := by
  refine h (fun x3 w => zr x3 → ZV Γ w 22 [(0, ar (D.x + 1)), (1, ai x1), (2, ai x2), (3, ai x3)] []) ?_ rx3
  clear h
  intro x3 w h rx3
  have hI22 : ∀ (x3 : Int) (w : TW), (fun x3 w => zr x3 → ZV Γ w 22 [(0, ar (D.x + 1)), (1, ai x1), (2, ai x2), (3, ai x3)] []) x3 w → zr x3 → ZV Γ w 22 [(0, ar (D.x + 1)), (1, ai x1), (2, ai x2), (3, ai x3)] [] := fun _ _ z => z
  refine zt_tok G (fun hw => ?_)
  refine zv_iload_n G rfl rfl dX1_byRules_22 ?_
  refine zv_aload_n G rfl rfl dX1_byRules_23 ?_
  refine zt_get (k := 49) (v := ar (D.ad 49 + 1)) G (by decide) q2204 rfl dX1_byRules_24 ?_
  refine zv_iload_n G rfl rfl dX1_byRules_27 ?_
  have o5 := h.1
  have h := h.2
  refine zt_iald (f := 49) G (by decide) rfl rx2 o5.1 o5.2 dX1_byRules_28 ?_
  refine zv_icmp_ge (tgt := 47) G rx3 (hw.a 49 _ (by decide)) (by decide) dX1_byRules_29 (fun c6 => ?_) (fun c6 => ?_)
  · have h := h.1 c6
    exact zv_pick [0, 1, 2, 3] rfl (cpT_byRules_47 G M S hk hI5 rx1 rx2 rx3 h)
  · have h := h.2 c6
    refine zv_aload_n G rfl rfl dX1_byRules_32 ?_
    refine zv_iload_n G rfl rfl dX1_byRules_33 ?_
    refine zv_iload_n G rfl rfl dX1_byRules_34 ?_
    refine zt_callI (as := [ai x2, ai x3]) G M (S 91 _ rfl _ _ _ h (zoks_cons rx2 (zoks_cons rx3 zoks_nil))) q2934 q2936 qs133 q2937 md_binds0 rfl (by decide) (Nat.le_of_ble_eq_true rfl) dX1_byRules_35 (fun v19 u18 rv19 h => ?_)
    refine zt_tok G (fun hu18 => ?_)
    refine zv_if_ne (tgt := 47) G rv19 (by decide) dX1_byRules_38 (fun c20 => ?_) (fun c20 => ?_)
    · have h := h.2 c20
      exact zv_pick [0, 1, 2, 3] rfl (cpT_byRules_47 G M S hk hI5 rx1 rx2 rx3 h)
    · have h := h.1 c20
      refine zv_iincN G rfl (by decide) dX1_byRules_41 (fun x3_21 ex3_21 => ?_)
      have h := h x3_21 ex3_21
      have rx3_21 : zr x3_21 := by rw [ex3_21]; exact w32_r _
      refine zv_goto (tgt := 22) G (by decide) dX1_byRules_44 ?_
      exact zv_pick [0, 1, 2, 3] rfl (hI22 _ _ h rx3_21)
set_option maxHeartbeats 4000000 in
set_option maxRecDepth 100000 in
theorem cpT_byRules_5 {Γ : ZG TW} {D : TD} {B0 d : Nat} {lim : Nat × Nat} (G : ZOk Γ cX1_byRules RX1 5 (KnT D B0) (ZT D B0)) (M : ZRm Γ (d + 1) lim (some .int) "byRules" []) (S : SdT d D B0 Γ.l lim) (hk : 0 ≤ d) {x1 : Int} {x2 : Int} {w : TW} (rx1 : zr x1) (rx2 : zr x2) (h : pT_byRules_5 (wpT d) (fun v w => Γ.Q (.inl (some (ai v))) w) x1 x2 w) : ZV Γ w 5 [(0, ar (D.x + 1)), (1, ai x1), (2, ai x2)] [] := by
  refine h (fun x2 w => zr x2 → ZV Γ w 5 [(0, ar (D.x + 1)), (1, ai x1), (2, ai x2)] []) ?_ rx2
  clear h
  intro x2 w h rx2
  have hI5 : ∀ (x2 : Int) (w : TW), (fun x2 w => zr x2 → ZV Γ w 5 [(0, ar (D.x + 1)), (1, ai x1), (2, ai x2)] []) x2 w → zr x2 → ZV Γ w 5 [(0, ar (D.x + 1)), (1, ai x1), (2, ai x2)] [] := fun _ _ z => z
  refine zt_tok G (fun hw => ?_)
  refine zv_iload_n G rfl rfl dX1_byRules_5 ?_
  refine zv_bipush (a := 16) G (by decide) dX1_byRules_6 ?_
  refine zv_iload_n G rfl rfl dX1_byRules_8 ?_
  refine zv_imul G dX1_byRules_9 ?_
  refine zv_aload_n G rfl rfl dX1_byRules_10 ?_
  refine zt_get (k := 45) (v := ar (D.ad 45 + 1)) G (by decide) q2200 rfl dX1_byRules_11 ?_
  refine zv_iload_n G rfl rfl dX1_byRules_14 ?_
  have o2 := h.1
  have h := h.2
  refine zt_iald (f := 45) G (by decide) rfl rx1 o2.1 o2.2 dX1_byRules_15 ?_
  refine zv_iadd G dX1_byRules_16 ?_
  refine zv_icmp_ge (tgt := 116) G rx2 (w32_r _) (by decide) dX1_byRules_17 (fun c3 => ?_) (fun c3 => ?_)
  · have h := h.1 c3
    exact zv_pick [0] rfl (cpT_byRules_116 G M S hk h)
  · have h := h.2 c3
    refine zv_iconst (a := 0) G (by decide) dX1_byRules_20 ?_
    refine zv_istore_n G rfl (by decide) rfl dX1_byRules_21 ?_
    exact zv_pick [0, 1, 2, 3] rfl (cpT_byRules_22 G M S hk hI5 rx1 rx2 (zr_k 0 (by decide) (by decide)) h)
set_option maxHeartbeats 4000000 in
set_option maxRecDepth 100000 in
theorem cpT_byRules_0 {Γ : ZG TW} {D : TD} {B0 d : Nat} {lim : Nat × Nat} (G : ZOk Γ cX1_byRules RX1 5 (KnT D B0) (ZT D B0)) (M : ZRm Γ (d + 1) lim (some .int) "byRules" []) (S : SdT d D B0 Γ.l lim) (hk : 0 ≤ d) {x1 : Int} {w : TW} (rx1 : zr x1) (h : pT_byRules_0 (wpT d) (fun v w => Γ.Q (.inl (some (ai v))) w) x1 w) : ZV Γ w 0 [(0, ar (D.x + 1)), (1, ai x1)] [] := by
  refine zt_tok G (fun hw => ?_)
  refine zv_bipush (a := 16) G (by decide) dX1_byRules_0 ?_
  refine zv_iload_n G rfl rfl dX1_byRules_2 ?_
  refine zv_imul G dX1_byRules_3 ?_
  refine zv_istore_nN G rfl (by decide) dX1_byRules_4 (fun x2_1 ex2_1 => ?_)
  have h := h x2_1 ex2_1
  have rx2_1 : zr x2_1 := by rw [ex2_1]; exact (w32_r _)
  exact zv_pick [0, 1, 2] rfl (cpT_byRules_5 G M S hk rx1 rx2_1 h)
set_option maxHeartbeats 4000000 in
set_option maxRecDepth 100000 in
theorem cpT_runs_411 {Γ : ZG TW} {D : TD} {B0 d : Nat} {lim : Nat × Nat} (G : ZOk Γ cX1_runs RX1 11 (KnT D B0) (ZT D B0)) (M : ZRm Γ (d + 1) lim (some .int) "runs" []) (S : SdT d D B0 Γ.l lim) (hk : 2 ≤ d) {x6 : Int} {w : TW} (rx6 : zr x6) (h : pT_runs_411 (wpT d) (fun v w => Γ.Q (.inl (some (ai v))) w) x6 w) : ZV Γ w 411 [(0, ar (D.x + 1)), (6, ai x6)] [] := by
  refine zt_tok G (fun hw => ?_)
  refine zv_aload_n G rfl rfl dX1_runs_411 ?_
  refine zv_iconst (a := 1) G (by decide) dX1_runs_412 ?_
  refine zt_putZ (k := 126) G (by decide) q2281 rfl (tyX1_ok 126 (by decide)) rfl (Or.inr rfl) dX1_runs_413 (fun u17 eu17 => ?_)
  have h := h u17 eu17
  refine zt_tok G (fun hu17 => ?_)
  refine zv_iload G rfl dX1_runs_416 ?_
  exact zv_iret (ty := .int) rx6 G M rfl dX1_runs_418 h
set_option maxHeartbeats 4000000 in
set_option maxRecDepth 100000 in
theorem cpT_runs_408 {Γ : ZG TW} {D : TD} {B0 d : Nat} {lim : Nat × Nat} (G : ZOk Γ cX1_runs RX1 11 (KnT D B0) (ZT D B0)) (M : ZRm Γ (d + 1) lim (some .int) "runs" []) (S : SdT d D B0 Γ.l lim) (hk : 2 ≤ d) {I152 : Int → Int → Int → TW → Prop} {x5 : Int} {x6 : Int} {x7 : Int} {x8 : Int} {w : TW} (hI152 : ∀ (x6 : Int) (x7 : Int) (x8 : Int) (w : TW), I152 x6 x7 x8 w → zr x6 → zr x7 → zr x8 → ZV Γ w 152 [(0, ar (D.x + 1)), (5, ai x5), (6, ai x6), (7, ai x7), (8, ai x8)] []) (rx5 : zr x5) (rx6 : zr x6) (rx7 : zr x7) (rx8 : zr x8) (h : pT_runs_408 (wpT d) (fun v w => Γ.Q (.inl (some (ai v))) w) I152 x5 x6 x7 x8 w) : ZV Γ w 408 [(0, ar (D.x + 1)), (5, ai x5), (6, ai x6), (7, ai x7), (8, ai x8)] [] := by
  refine zt_tok G (fun hw => ?_)
  refine zv_goto (tgt := 152) G (by decide) dX1_runs_408 ?_
  exact zv_pick [0, 5, 6, 7, 8] rfl (hI152 _ _ _ _ h rx6 rx7 rx8)
set_option maxHeartbeats 4000000 in
set_option maxRecDepth 100000 in
theorem cpT_runs_396 {Γ : ZG TW} {D : TD} {B0 d : Nat} {lim : Nat × Nat} (G : ZOk Γ cX1_runs RX1 11 (KnT D B0) (ZT D B0)) (M : ZRm Γ (d + 1) lim (some .int) "runs" []) (S : SdT d D B0 Γ.l lim) (hk : 2 ≤ d) {I152 : Int → Int → Int → TW → Prop} {x5 : Int} {x6 : Int} {x9 : Int} {w : TW} (hI152 : ∀ (x6 : Int) (x7 : Int) (x8 : Int) (w : TW), I152 x6 x7 x8 w → zr x6 → zr x7 → zr x8 → ZV Γ w 152 [(0, ar (D.x + 1)), (5, ai x5), (6, ai x6), (7, ai x7), (8, ai x8)] []) (rx5 : zr x5) (rx6 : zr x6) (rx9 : zr x9) (h : pT_runs_396 (wpT d) (fun v w => Γ.Q (.inl (some (ai v))) w) I152 x5 x6 x9 w) : ZV Γ w 396 [(0, ar (D.x + 1)), (5, ai x5), (6, ai x6), (9, ai x9)] [] := by
  refine zt_tok G (fun hw => ?_)
  refine zv_aload_n G rfl rfl dX1_runs_396 ?_
  refine zt_get (k := 55) (v := ar (D.ad 55 + 1)) G (by decide) q2210 rfl dX1_runs_397 ?_
  refine zv_iload G rfl dX1_runs_400 ?_
  have o31 := h.1
  have h := h.2
  refine zt_iald (f := 55) G (by decide) rfl rx9 o31.1 o31.2 dX1_runs_402 ?_
  refine zv_istoreN G (by decide) dX1_runs_403 (fun x7_32 ex7_32 => ?_)
  have h := h x7_32 ex7_32
  have rx7_32 : zr x7_32 := by rw [ex7_32]; exact (hw.a 55 _ (by decide))
  refine zv_iconst (a := 1) G (by decide) dX1_runs_405 ?_
  refine zv_istore G (by decide) rfl dX1_runs_406 ?_
  exact zv_pick [0, 5, 6, 7, 8] rfl (cpT_runs_408 G M S hk hI152 rx5 rx6 rx7_32 (zr_k 1 (by decide) (by decide)) h)
set_option maxHeartbeats 4000000 in
set_option maxRecDepth 100000 in
theorem cpT_runs_354 {Γ : ZG TW} {D : TD} {B0 d : Nat} {lim : Nat × Nat} (G : ZOk Γ cX1_runs RX1 11 (KnT D B0) (ZT D B0)) (M : ZRm Γ (d + 1) lim (some .int) "runs" []) (S : SdT d D B0 Γ.l lim) (hk : 2 ≤ d) {I152 : Int → Int → Int → TW → Prop} {x5 : Int} {x6 : Int} {x9 : Int} {x10 : Int} {w : TW} (hI152 : ∀ (x6 : Int) (x7 : Int) (x8 : Int) (w : TW), I152 x6 x7 x8 w → zr x6 → zr x7 → zr x8 → ZV Γ w 152 [(0, ar (D.x + 1)), (5, ai x5), (6, ai x6), (7, ai x7), (8, ai x8)] []) (rx5 : zr x5) (rx6 : zr x6) (rx9 : zr x9) (rx10 : zr x10) (h : pT_runs_354 (wpT d) (fun v w => Γ.Q (.inl (some (ai v))) w) I152 x5 x6 x9 x10 w) : ZV Γ w 354 [(0, ar (D.x + 1)), (5, ai x5), (6, ai x6), (9, ai x9), (10, ai x10)] [] := by
  refine h (fun x10 w => zr x10 → ZV Γ w 354 [(0, ar (D.x + 1)), (5, ai x5), (6, ai x6), (9, ai x9), (10, ai x10)] []) ?_ rx10
  clear h
  intro x10 w h rx10
  have hI354 : ∀ (x10 : Int) (w : TW), (fun x10 w => zr x10 → ZV Γ w 354 [(0, ar (D.x + 1)), (5, ai x5), (6, ai x6), (9, ai x9), (10, ai x10)] []) x10 w → zr x10 → ZV Γ w 354 [(0, ar (D.x + 1)), (5, ai x5), (6, ai x6), (9, ai x9), (10, ai x10)] [] := fun _ _ z => z
  refine zt_tok G (fun hw => ?_)
  refine zv_iload G rfl dX1_runs_354 ?_
  refine zv_aload_n G rfl rfl dX1_runs_356 ?_
  refine zt_get (k := 58) (v := ar (D.ad 58 + 1)) G (by decide) q2213 rfl dX1_runs_357 ?_
  refine zv_iload G rfl dX1_runs_360 ?_
  have o29 := h.1
  have h := h.2
  refine zt_iald (f := 58) G (by decide) rfl rx9 o29.1 o29.2 dX1_runs_362 ?_
  refine zv_icmp_ge (tgt := 396) G rx10 (hw.a 58 _ (by decide)) (by decide) dX1_runs_363 (fun c30 => ?_) (fun c30 => ?_)
  · have h := h.1 c30
    exact zv_pick [0, 5, 6, 9] rfl (cpT_runs_396 G M S hk hI152 rx5 rx6 rx9 h)
  · have h := h.2 c30
    refine zv_aload_n G rfl rfl dX1_runs_366 ?_
    refine zt_get (k := 117) (v := ar (D.ad 117 + 1)) G (by decide) q2272 rfl dX1_runs_367 ?_
    refine zv_iload G rfl dX1_runs_370 ?_
    refine zv_aload_n G rfl rfl dX1_runs_372 ?_
    refine zt_get (k := 118) (v := ar (D.ad 118 + 1)) G (by decide) q2273 rfl dX1_runs_373 ?_
    refine zv_aload_n G rfl rfl dX1_runs_376 ?_
    refine zt_get (k := 59) (v := ar (D.ad 59 + 1)) G (by decide) q2214 rfl dX1_runs_377 ?_
    refine zv_iconst (a := 3) G (by decide) dX1_runs_380 ?_
    refine zv_iload G rfl dX1_runs_381 ?_
    refine zv_imul G dX1_runs_383 ?_
    refine zv_iload G rfl dX1_runs_384 ?_
    refine zv_iadd G dX1_runs_386 ?_
    have o33 := h.1
    have h := h.2
    refine zt_iald (f := 59) G (by decide) rfl (w32_r _) o33.1 o33.2 dX1_runs_387 ?_
    have o34 := h.1
    have h := h.2
    refine zt_iald (f := 118) G (by decide) rfl (hw.a 59 _ (by decide)) o34.1 o34.2 dX1_runs_388 ?_
    have o36 := h.1
    have h := h.2
    refine zt_iast (f := 117) G (by decide) rfl rx10 (hw.a 118 _ (by decide)) o36.1 o36.2 dX1_runs_389 (fun u35 eu35 => ?_)
    have h := h u35 eu35
    refine zt_tok G (fun hu35 => ?_)
    refine zv_iincN G rfl (by decide) dX1_runs_390 (fun x10_37 ex10_37 => ?_)
    have h := h x10_37 ex10_37
    have rx10_37 : zr x10_37 := by rw [ex10_37]; exact w32_r _
    refine zv_goto (tgt := 354) G (by decide) dX1_runs_393 ?_
    exact zv_pick [0, 5, 6, 9, 10] rfl (hI354 _ _ h rx10_37)
set_option maxHeartbeats 4000000 in
set_option maxRecDepth 100000 in
theorem cpT_runs_270 {Γ : ZG TW} {D : TD} {B0 d : Nat} {lim : Nat × Nat} (G : ZOk Γ cX1_runs RX1 11 (KnT D B0) (ZT D B0)) (M : ZRm Γ (d + 1) lim (some .int) "runs" []) (S : SdT d D B0 Γ.l lim) (hk : 2 ≤ d) {I152 : Int → Int → Int → TW → Prop} {x5 : Int} {x6 : Int} {x7 : Int} {x8 : Int} {x9 : Int} {w : TW} (hI152 : ∀ (x6 : Int) (x7 : Int) (x8 : Int) (w : TW), I152 x6 x7 x8 w → zr x6 → zr x7 → zr x8 → ZV Γ w 152 [(0, ar (D.x + 1)), (5, ai x5), (6, ai x6), (7, ai x7), (8, ai x8)] []) (rx5 : zr x5) (rx6 : zr x6) (rx7 : zr x7) (rx8 : zr x8) (rx9 : zr x9) (h : pT_runs_270 (wpT d) (fun v w => Γ.Q (.inl (some (ai v))) w) I152 x5 x6 x7 x8 x9 w) : ZV Γ w 270 [(0, ar (D.x + 1)), (5, ai x5), (6, ai x6), (7, ai x7), (8, ai x8), (9, ai x9)] [] := by
  refine zt_tok G (fun hw => ?_)
  refine zv_aload_n G rfl rfl dX1_runs_270 ?_
  refine zt_get (k := 54) (v := ar (D.ad 54 + 1)) G (by decide) q2209 rfl dX1_runs_271 ?_
  refine zv_iload G rfl dX1_runs_274 ?_
  have o26 := h.1
  have h := h.2
  refine zt_iald (f := 54) G (by decide) rfl rx9 o26.1 o26.2 dX1_runs_276 ?_
  refine zv_iconst (a := 2) G (by decide) dX1_runs_277 ?_
  refine zv_icmp_ge (tgt := 334) G (hw.a 54 _ (by decide)) (zr_k 2 (by decide) (by decide)) (by decide) dX1_runs_278 (fun c27 => ?_) (fun c27 => ?_)
  · have h := h.1 c27
    refine zv_aload_n G rfl rfl dX1_runs_334 ?_
    refine zt_get (k := 121) (v := ai (tI w 121)) G (by decide) q2276 rfl dX1_runs_335 ?_
    refine zv_bipush (a := 100) G (by decide) dX1_runs_338 ?_
    refine zv_icmp_ne (tgt := 351) G (hw.i 121 (by decide)) (zr_k 100 (by decide) (by decide)) (by decide) dX1_runs_340 (fun c28 => ?_) (fun c28 => ?_)
    · have h := h.2 c28
      refine zv_iconst (a := 0) G (by decide) dX1_runs_351 ?_
      refine zv_istore G (by decide) rfl dX1_runs_352 ?_
      exact zv_pick [0, 5, 6, 9, 10] rfl (cpT_runs_354 G M S hk hI152 rx5 rx6 rx9 (zr_k 0 (by decide) (by decide)) h)
    · have h := h.1 c28
      refine zv_aload_n G rfl rfl dX1_runs_343 ?_
      refine zv_iconst (a := 4) G (by decide) dX1_runs_344 ?_
      refine zt_putI (k := 119) G (by decide) q2274 rfl (tyX1_ok 119 (by decide)) rfl (zr_k 4 (by decide) (by decide)) dX1_runs_345 (fun u38 eu38 => ?_)
      have h := h u38 eu38
      refine zt_tok G (fun hu38 => ?_)
      refine zv_goto (tgt := 408) G (by decide) dX1_runs_348 ?_
      exact zv_pick [0, 5, 6, 7, 8] rfl (cpT_runs_408 G M S hk hI152 rx5 rx6 rx7 rx8 h)
  · have h := h.2 c27
    refine zv_aload_n G rfl rfl dX1_runs_281 ?_
    refine zv_iload G rfl dX1_runs_282 ?_
    refine zv_bipush (a := 16) G (by decide) dX1_runs_284 ?_
    refine zv_irem G (zr_k 16 (by decide) (by decide)) (by decide) dX1_runs_286 ?_
    refine zt_putI (k := 125) G (by decide) q2280 rfl (tyX1_ok 125 (by decide)) rfl (by first | exact i_and_r _ _ | exact i_or_r _ _ | exact i_shl_r _ _ | exact i_shr_r _ _ | exact i_ushr_r _ _ | exact i_b_r _ | exact i_c_r _ | exact i_xor_r _ _ | exact i_div_r _ _ | exact i_rem_r _ _ | exact zr_of _) dX1_runs_287 (fun u39 eu39 => ?_)
    have h := h u39 eu39
    refine zt_tok G (fun hu39 => ?_)
    refine zv_aload_n G rfl rfl dX1_runs_290 ?_
    refine zv_aload_n G rfl rfl dX1_runs_291 ?_
    refine zt_get (k := 54) (v := ar (D.ad 54 + 1)) G (by decide) q2209 rfl dX1_runs_292 ?_
    refine zv_iload G rfl dX1_runs_295 ?_
    have o40 := h.1
    have h := h.2
    refine zt_iald (f := 54) G (by decide) rfl rx9 o40.1 o40.2 dX1_runs_297 ?_
    have o42 := h.1
    have h := h.2
    have kj44 : ∀ v41 : Int, v41 = (if (tA u39 54 x9) = 0 then tA u39 55 x9 else tA u39 111 (tA u39 118 (tA u39 55 x9))) → ZV Γ u39 328 [(0, ar (D.x + 1)), (5, ai x5), (6, ai x6), (7, ai x7), (8, ai x8), (9, ai x9)] (ai v41 :: ar (D.x + 1) :: []) := by
      intro v41 ev41
      have h := h v41 ev41
      have rv41 : zr v41 := by rw [ev41]; exact (zr_ite (hu39.a 55 _ (by decide)) (hu39.a 111 _ (by decide)))
      refine zt_putI (k := 120) G (by decide) q2275 rfl (tyX1_ok 120 (by decide)) rfl rv41 dX1_runs_328 (fun u43 eu43 => ?_)
      have h := h u43 eu43
      refine zt_tok G (fun hu43 => ?_)
      refine zv_goto (tgt := 408) G (by decide) dX1_runs_331 ?_
      exact zv_pick [0, 5, 6, 7, 8] rfl (cpT_runs_408 G M S hk hI152 rx5 rx6 rx7 rx8 h)
    refine zv_if_ne (tgt := 311) G (hu39.a 54 _ (by decide)) (by decide) dX1_runs_298 (fun c45 => ?_) (fun c45 => ?_)
    · refine zv_aload_n G rfl rfl dX1_runs_311 ?_
      refine zt_get (k := 111) (v := ar (D.ad 111 + 1)) G (by decide) q2266 rfl dX1_runs_312 ?_
      refine zv_aload_n G rfl rfl dX1_runs_315 ?_
      refine zt_get (k := 118) (v := ar (D.ad 118 + 1)) G (by decide) q2273 rfl dX1_runs_316 ?_
      refine zv_aload_n G rfl rfl dX1_runs_319 ?_
      refine zt_get (k := 55) (v := ar (D.ad 55 + 1)) G (by decide) q2210 rfl dX1_runs_320 ?_
      refine zv_iload G rfl dX1_runs_323 ?_
      refine zt_iald (f := 55) G (by decide) rfl rx9 (o42.2 c45).1.1 (o42.2 c45).1.2 dX1_runs_325 ?_
      refine zt_iald (f := 118) G (by decide) rfl (hu39.a 55 _ (by decide)) (o42.2 c45).2.1.1 (o42.2 c45).2.1.2 dX1_runs_326 ?_
      refine zt_iald (f := 111) G (by decide) rfl (hu39.a 118 _ (by decide)) (o42.2 c45).2.2.1 (o42.2 c45).2.2.2 dX1_runs_327 ?_
      exact kj44 _ (if_neg c45).symm
    · refine zv_aload_n G rfl rfl dX1_runs_301 ?_
      refine zt_get (k := 55) (v := ar (D.ad 55 + 1)) G (by decide) q2210 rfl dX1_runs_302 ?_
      refine zv_iload G rfl dX1_runs_305 ?_
      refine zt_iald (f := 55) G (by decide) rfl rx9 (o42.1 c45).1 (o42.1 c45).2 dX1_runs_307 ?_
      refine zv_goto (tgt := 328) G (by decide) dX1_runs_308 ?_
      exact kj44 _ (if_pos c45).symm
set_option maxHeartbeats 4000000 in
set_option maxRecDepth 100000 in
theorem cpT_runs_243 {Γ : ZG TW} {D : TD} {B0 d : Nat} {lim : Nat × Nat} (G : ZOk Γ cX1_runs RX1 11 (KnT D B0) (ZT D B0)) (M : ZRm Γ (d + 1) lim (some .int) "runs" []) (S : SdT d D B0 Γ.l lim) (hk : 2 ≤ d) {I152 : Int → Int → Int → TW → Prop} {x5 : Int} {x6 : Int} {x7 : Int} {x8 : Int} {x9 : Int} {x10 : Int} {w : TW} (hI152 : ∀ (x6 : Int) (x7 : Int) (x8 : Int) (w : TW), I152 x6 x7 x8 w → zr x6 → zr x7 → zr x8 → ZV Γ w 152 [(0, ar (D.x + 1)), (5, ai x5), (6, ai x6), (7, ai x7), (8, ai x8)] []) (rx5 : zr x5) (rx6 : zr x6) (rx7 : zr x7) (rx8 : zr x8) (rx9 : zr x9) (rx10 : zr x10) (h : pT_runs_243 (wpT d) (fun v w => Γ.Q (.inl (some (ai v))) w) I152 x5 x6 x7 x8 x9 x10 w) : ZV Γ w 243 [(0, ar (D.x + 1)), (5, ai x5), (6, ai x6), (7, ai x7), (8, ai x8), (9, ai x9), (10, ai x10)] [] := by
  refine h (fun x10 w => zr x10 → ZV Γ w 243 [(0, ar (D.x + 1)), (5, ai x5), (6, ai x6), (7, ai x7), (8, ai x8), (9, ai x9), (10, ai x10)] []) ?_ rx10
  clear h
  intro x10 w h rx10
  have hI243 : ∀ (x10 : Int) (w : TW), (fun x10 w => zr x10 → ZV Γ w 243 [(0, ar (D.x + 1)), (5, ai x5), (6, ai x6), (7, ai x7), (8, ai x8), (9, ai x9), (10, ai x10)] []) x10 w → zr x10 → ZV Γ w 243 [(0, ar (D.x + 1)), (5, ai x5), (6, ai x6), (7, ai x7), (8, ai x8), (9, ai x9), (10, ai x10)] [] := fun _ _ z => z
  refine zt_tok G (fun hw => ?_)
  refine zv_iload G rfl dX1_runs_243 ?_
  refine zv_bipush (a := 8) G (by decide) dX1_runs_245 ?_
  refine zv_icmp_ge (tgt := 270) G rx10 (zr_k 8 (by decide) (by decide)) (by decide) dX1_runs_247 (fun c49 => ?_) (fun c49 => ?_)
  · have h := h.1 c49
    exact zv_pick [0, 5, 6, 7, 8, 9] rfl (cpT_runs_270 G M S hk hI152 rx5 rx6 rx7 rx8 rx9 h)
  · have h := h.2 c49
    refine zv_aload_n G rfl rfl dX1_runs_250 ?_
    refine zt_get (k := 129) (v := ar (D.ad 129 + 1)) G (by decide) q2284 rfl dX1_runs_251 ?_
    refine zv_iload G rfl dX1_runs_254 ?_
    refine zv_aload_n G rfl rfl dX1_runs_256 ?_
    refine zt_get (k := 118) (v := ar (D.ad 118 + 1)) G (by decide) q2273 rfl dX1_runs_257 ?_
    refine zv_iload G rfl dX1_runs_260 ?_
    have o50 := h.1
    have h := h.2
    refine zt_iald (f := 118) G (by decide) rfl rx10 o50.1 o50.2 dX1_runs_262 ?_
    have o52 := h.1
    have h := h.2
    refine zt_iast (f := 129) G (by decide) rfl rx10 (hw.a 118 _ (by decide)) o52.1 o52.2 dX1_runs_263 (fun u51 eu51 => ?_)
    have h := h u51 eu51
    refine zt_tok G (fun hu51 => ?_)
    refine zv_iincN G rfl (by decide) dX1_runs_264 (fun x10_53 ex10_53 => ?_)
    have h := h x10_53 ex10_53
    have rx10_53 : zr x10_53 := by rw [ex10_53]; exact w32_r _
    refine zv_goto (tgt := 243) G (by decide) dX1_runs_267 ?_
    exact zv_pick [0, 5, 6, 7, 8, 9, 10] rfl (hI243 _ _ h rx10_53)
set_option maxHeartbeats 4000000 in
set_option maxRecDepth 100000 in
theorem cpT_runs_199 {Γ : ZG TW} {D : TD} {B0 d : Nat} {lim : Nat × Nat} (G : ZOk Γ cX1_runs RX1 11 (KnT D B0) (ZT D B0)) (M : ZRm Γ (d + 1) lim (some .int) "runs" []) (S : SdT d D B0 Γ.l lim) (hk : 2 ≤ d) {I152 : Int → Int → Int → TW → Prop} {x5 : Int} {x6 : Int} {x7 : Int} {s0 : Int} {w : TW} (hI152 : ∀ (x6 : Int) (x7 : Int) (x8 : Int) (w : TW), I152 x6 x7 x8 w → zr x6 → zr x7 → zr x8 → ZV Γ w 152 [(0, ar (D.x + 1)), (5, ai x5), (6, ai x6), (7, ai x7), (8, ai x8)] []) (rx5 : zr x5) (rx6 : zr x6) (rx7 : zr x7) (rs0 : zr s0) (h : pT_runs_199 (wpT d) (fun v w => Γ.Q (.inl (some (ai v))) w) I152 x5 x6 x7 s0 w) : ZV Γ w 199 [(0, ar (D.x + 1)), (5, ai x5), (6, ai x6), (7, ai x7)] [ai s0] := by
  refine zt_tok G (fun hw => ?_)
  refine zv_istore G (by decide) rfl dX1_runs_199 ?_
  refine zv_iconst (a := 0) G (by decide) dX1_runs_201 ?_
  refine zv_istore G (by decide) rfl dX1_runs_202 ?_
  refine zv_iload G rfl dX1_runs_204 ?_
  refine zv_bipush (a := (-4)) G (by decide) dX1_runs_206 ?_
  refine zv_icmp_ne (tgt := 214) G rs0 (zr_k (-4) (by decide) (by decide)) (by decide) dX1_runs_208 (fun c24 => ?_) (fun c24 => ?_)
  · have h := h.2 c24
    refine zv_aload_n G rfl rfl dX1_runs_214 ?_
    refine zt_get (k := 121) (v := ai (tI w 121)) G (by decide) q2276 rfl dX1_runs_215 ?_
    refine zv_iconst (a := 1) G (by decide) dX1_runs_218 ?_
    refine zv_icmp_ne (tgt := 270) G (hw.i 121 (by decide)) (zr_k 1 (by decide) (by decide)) (by decide) dX1_runs_219 (fun c25 => ?_) (fun c25 => ?_)
    · have h := h.2 c25
      exact zv_pick [0, 5, 6, 7, 8, 9] rfl (cpT_runs_270 G M S hk hI152 rx5 rx6 rx7 (zr_k 0 (by decide) (by decide)) rs0 h)
    · have h := h.1 c25
      refine zv_iload G rfl dX1_runs_222 ?_
      refine zv_bipush (a := 16) G (by decide) dX1_runs_224 ?_
      refine zv_irem G (zr_k 16 (by decide) (by decide)) (by decide) dX1_runs_226 ?_
      refine zv_istoreN G (by decide) dX1_runs_227 (fun x6_46 ex6_46 => ?_)
      have h := h x6_46 ex6_46
      have rx6_46 : zr x6_46 := by rw [ex6_46]; exact (by first | exact i_and_r _ _ | exact i_or_r _ _ | exact i_shl_r _ _ | exact i_shr_r _ _ | exact i_ushr_r _ _ | exact i_b_r _ | exact i_c_r _ | exact i_xor_r _ _ | exact i_div_r _ _ | exact i_rem_r _ _ | exact zr_of _)
      refine zv_aload_n G rfl rfl dX1_runs_229 ?_
      refine zv_aload_n G rfl rfl dX1_runs_230 ?_
      refine zt_get (k := 28) (v := ar (D.ad 28 + 1)) G (by decide) q2183 rfl dX1_runs_231 ?_
      refine zv_iload G rfl dX1_runs_234 ?_
      have o47 := h.1
      have h := h.2
      refine zt_iald (f := 28) G (by decide) rfl rs0 o47.1 o47.2 dX1_runs_236 ?_
      refine zt_putI (k := 128) G (by decide) q2283 rfl (tyX1_ok 128 (by decide)) rfl (hw.a 28 _ (by decide)) dX1_runs_237 (fun u48 eu48 => ?_)
      have h := h u48 eu48
      refine zt_tok G (fun hu48 => ?_)
      refine zv_iconst (a := 0) G (by decide) dX1_runs_240 ?_
      refine zv_istore G (by decide) rfl dX1_runs_241 ?_
      exact zv_pick [0, 5, 6, 7, 8, 9, 10] rfl (cpT_runs_243 G M S hk hI152 rx5 rx6_46 rx7 (zr_k 0 (by decide) (by decide)) rs0 (zr_k 0 (by decide) (by decide)) h)
  · have h := h.1 c24
    refine zv_goto (tgt := 152) G (by decide) dX1_runs_211 ?_
    exact zv_pick [0, 5, 6, 7, 8] rfl (hI152 _ _ _ _ h rx6 rx7 (zr_k 0 (by decide) (by decide)))
set_option maxHeartbeats 4000000 in
set_option maxRecDepth 100000 in
theorem cpT_runs_152 {Γ : ZG TW} {D : TD} {B0 d : Nat} {lim : Nat × Nat} (G : ZOk Γ cX1_runs RX1 11 (KnT D B0) (ZT D B0)) (M : ZRm Γ (d + 1) lim (some .int) "runs" []) (S : SdT d D B0 Γ.l lim) (hk : 2 ≤ d) {x5 : Int} {x6 : Int} {x7 : Int} {x8 : Int} {w : TW} (rx5 : zr x5) (rx6 : zr x6) (rx7 : zr x7) (rx8 : zr x8) (h : pT_runs_152 (wpT d) (fun v w => Γ.Q (.inl (some (ai v))) w) x5 x6 x7 x8 w) : ZV Γ w 152 [(0, ar (D.x + 1)), (5, ai x5), (6, ai x6), (7, ai x7), (8, ai x8)] [] := by
  refine h (fun x6 x7 x8 w => zr x6 → zr x7 → zr x8 → ZV Γ w 152 [(0, ar (D.x + 1)), (5, ai x5), (6, ai x6), (7, ai x7), (8, ai x8)] []) ?_ rx6 rx7 rx8
  clear h
  intro x6 x7 x8 w h rx6 rx7 rx8
  have hI152 : ∀ (x6 : Int) (x7 : Int) (x8 : Int) (w : TW), (fun x6 x7 x8 w => zr x6 → zr x7 → zr x8 → ZV Γ w 152 [(0, ar (D.x + 1)), (5, ai x5), (6, ai x6), (7, ai x7), (8, ai x8)] []) x6 x7 x8 w → zr x6 → zr x7 → zr x8 → ZV Γ w 152 [(0, ar (D.x + 1)), (5, ai x5), (6, ai x6), (7, ai x7), (8, ai x8)] [] := fun _ _ _ _ z => z
  refine zt_tok G (fun hw => ?_)
  refine zv_iload G rfl dX1_runs_152 ?_
  refine zv_if_eq (tgt := 411) G rx8 (by decide) dX1_runs_154 (fun c16 => ?_) (fun c16 => ?_)
  · have h := h.1 c16
    exact zv_pick [0, 6] rfl (cpT_runs_411 G M S hk rx6 h)
  · have h := h.2 c16
    refine zv_aload_n G rfl rfl dX1_runs_157 ?_
    refine zv_dup G rfl dX1_runs_158 ?_
    refine zt_get (k := 121) (v := ai (tI w 121)) G (by decide) q2276 rfl dX1_runs_159 ?_
    refine zv_iconst (a := 1) G (by decide) dX1_runs_162 ?_
    refine zv_iadd G dX1_runs_163 ?_
    refine zt_putI (k := 121) G (by decide) q2276 rfl (tyX1_ok 121 (by decide)) rfl (w32_r _) dX1_runs_164 (fun u18 eu18 => ?_)
    have h := h u18 eu18
    refine zt_tok G (fun hu18 => ?_)
    refine zv_aload_n G rfl rfl dX1_runs_167 ?_
    refine zv_iload G rfl dX1_runs_168 ?_
    refine zt_putI (k := 124) G (by decide) q2279 rfl (tyX1_ok 124 (by decide)) rfl rx7 dX1_runs_170 (fun u19 eu19 => ?_)
    have h := h u19 eu19
    refine zt_tok G (fun hu19 => ?_)
    refine zv_aload_n G rfl rfl dX1_runs_173 ?_
    refine zv_bipush (a := (-4)) G (by decide) dX1_runs_174 ?_
    refine zt_putI (k := 125) G (by decide) q2280 rfl (tyX1_ok 125 (by decide)) rfl (zr_k (-4) (by decide) (by decide)) dX1_runs_176 (fun u20 eu20 => ?_)
    have h := h u20 eu20
    refine zt_tok G (fun hu20 => ?_)
    refine zv_iload G rfl dX1_runs_179 ?_
    refine zv_if_eq (tgt := 193) G rx5 (by decide) dX1_runs_181 (fun c21 => ?_) (fun c21 => ?_)
    · have h := h.1 c21
      refine zv_aload_n G rfl rfl dX1_runs_193 ?_
      refine zv_iload G rfl dX1_runs_194 ?_
      refine zt_callI (as := [ai x7]) G M (S 99 _ rfl _ _ _ h (zoks_cons rx7 zoks_nil)) q2966 q2968 qs141 q2969 md_byRules rfl (by decide) (Nat.le_of_ble_eq_true rfl) dX1_runs_196 (fun v23 u22 rv23 h => ?_)
      refine zt_tok G (fun hu22 => ?_)
      exact zv_pick [0, 5, 6, 7] rfl (cpT_runs_199 G M S hk hI152 rx5 rx6 rx7 rv23 h)
    · have h := h.2 c21
      refine zv_aload_n G rfl rfl dX1_runs_184 ?_
      refine zv_iload G rfl dX1_runs_185 ?_
      refine zt_callI (as := [ai x7]) G M (S 90 _ rfl _ _ _ h (zoks_cons rx7 zoks_nil)) q2930 q2932 qs132 q2933 md_byTree rfl (by decide) (Nat.le_of_ble_eq_true rfl) dX1_runs_187 (fun v55 u54 rv55 h => ?_)
      refine zt_tok G (fun hu54 => ?_)
      refine zv_goto (tgt := 199) G (by decide) dX1_runs_190 ?_
      exact zv_pick [0, 5, 6, 7] rfl (cpT_runs_199 G M S hk hI152 rx5 rx6 rx7 rv55 h)
set_option maxHeartbeats 4000000 in
set_option maxRecDepth 100000 in
theorem cpT_runs_84 {Γ : ZG TW} {D : TD} {B0 d : Nat} {lim : Nat × Nat} (G : ZOk Γ cX1_runs RX1 11 (KnT D B0) (ZT D B0)) (M : ZRm Γ (d + 1) lim (some .int) "runs" []) (S : SdT d D B0 Γ.l lim) (hk : 2 ≤ d) {x1 : Int} {x2 : Int} {x3 : Int} {x4 : Int} {x5 : Int} {w : TW} (rx1 : zr x1) (rx2 : zr x2) (rx3 : zr x3) (rx4 : zr x4) (rx5 : zr x5) (h : pT_runs_84 (wpT d) (fun v w => Γ.Q (.inl (some (ai v))) w) x1 x2 x3 x4 x5 w) : ZV Γ w 84 [(0, ar (D.x + 1)), (1, ai x1), (2, ai x2), (3, ai x3), (4, ai x4), (5, ai x5)] [] := by
  refine zt_tok G (fun hw => ?_)
  refine zv_aload_n G rfl rfl dX1_runs_84 ?_
  refine zt_get (k := 117) (v := ar (D.ad 117 + 1)) G (by decide) q2272 rfl dX1_runs_85 ?_
  refine zv_iconst (a := 0) G (by decide) dX1_runs_88 ?_
  refine zv_iload_n G rfl rfl dX1_runs_89 ?_
  refine zt_iast (f := 117) G (by decide) rfl (zr_k 0 (by decide) (by decide)) rx2 (by omega) (by decide) dX1_runs_90 (fun u6 eu6 => ?_)
  have h := h u6 eu6
  refine zt_tok G (fun hu6 => ?_)
  refine zv_aload_n G rfl rfl dX1_runs_91 ?_
  refine zt_get (k := 117) (v := ar (D.ad 117 + 1)) G (by decide) q2272 rfl dX1_runs_92 ?_
  refine zv_iconst (a := 1) G (by decide) dX1_runs_95 ?_
  refine zv_iload_n G rfl rfl dX1_runs_96 ?_
  refine zt_iast (f := 117) G (by decide) rfl (zr_k 1 (by decide) (by decide)) rx3 (by omega) (by decide) dX1_runs_97 (fun u7 eu7 => ?_)
  have h := h u7 eu7
  refine zt_tok G (fun hu7 => ?_)
  refine zv_aload_n G rfl rfl dX1_runs_98 ?_
  refine zt_get (k := 117) (v := ar (D.ad 117 + 1)) G (by decide) q2272 rfl dX1_runs_99 ?_
  refine zv_iconst (a := 2) G (by decide) dX1_runs_102 ?_
  refine zv_iload G rfl dX1_runs_103 ?_
  refine zt_iast (f := 117) G (by decide) rfl (zr_k 2 (by decide) (by decide)) rx4 (by omega) (by decide) dX1_runs_105 (fun u8 eu8 => ?_)
  have h := h u8 eu8
  refine zt_tok G (fun hu8 => ?_)
  refine zv_aload_n G rfl rfl dX1_runs_106 ?_
  refine zv_iconst (a := 0) G (by decide) dX1_runs_107 ?_
  refine zt_putI (k := 119) G (by decide) q2274 rfl (tyX1_ok 119 (by decide)) rfl (zr_k 0 (by decide) (by decide)) dX1_runs_108 (fun u9 eu9 => ?_)
  have h := h u9 eu9
  refine zt_tok G (fun hu9 => ?_)
  refine zv_aload_n G rfl rfl dX1_runs_111 ?_
  refine zv_iconst (a := 0) G (by decide) dX1_runs_112 ?_
  refine zt_putI (k := 120) G (by decide) q2275 rfl (tyX1_ok 120 (by decide)) rfl (zr_k 0 (by decide) (by decide)) dX1_runs_113 (fun u10 eu10 => ?_)
  have h := h u10 eu10
  refine zt_tok G (fun hu10 => ?_)
  refine zv_aload_n G rfl rfl dX1_runs_116 ?_
  refine zv_iconst (a := 0) G (by decide) dX1_runs_117 ?_
  refine zt_putI (k := 121) G (by decide) q2276 rfl (tyX1_ok 121 (by decide)) rfl (zr_k 0 (by decide) (by decide)) dX1_runs_118 (fun u11 eu11 => ?_)
  have h := h u11 eu11
  refine zt_tok G (fun hu11 => ?_)
  refine zv_aload_n G rfl rfl dX1_runs_121 ?_
  refine zv_iconst (a := 0) G (by decide) dX1_runs_122 ?_
  refine zt_putI (k := 122) G (by decide) q2277 rfl (tyX1_ok 122 (by decide)) rfl (zr_k 0 (by decide) (by decide)) dX1_runs_123 (fun u12 eu12 => ?_)
  have h := h u12 eu12
  refine zt_tok G (fun hu12 => ?_)
  refine zv_aload_n G rfl rfl dX1_runs_126 ?_
  refine zv_iconst (a := 0) G (by decide) dX1_runs_127 ?_
  refine zt_putI (k := 123) G (by decide) q2278 rfl (tyX1_ok 123 (by decide)) rfl (zr_k 0 (by decide) (by decide)) dX1_runs_128 (fun u13 eu13 => ?_)
  have h := h u13 eu13
  refine zt_tok G (fun hu13 => ?_)
  refine zv_aload_n G rfl rfl dX1_runs_131 ?_
  refine zv_iconst (a := 0) G (by decide) dX1_runs_132 ?_
  refine zt_putI (k := 128) G (by decide) q2283 rfl (tyX1_ok 128 (by decide)) rfl (zr_k 0 (by decide) (by decide)) dX1_runs_133 (fun u14 eu14 => ?_)
  have h := h u14 eu14
  refine zt_tok G (fun hu14 => ?_)
  refine zv_aload_n G rfl rfl dX1_runs_136 ?_
  refine zv_bipush (a := (-4)) G (by decide) dX1_runs_137 ?_
  refine zt_putI (k := 125) G (by decide) q2280 rfl (tyX1_ok 125 (by decide)) rfl (zr_k (-4) (by decide) (by decide)) dX1_runs_139 (fun u15 eu15 => ?_)
  have h := h u15 eu15
  refine zt_tok G (fun hu15 => ?_)
  refine zv_bipush (a := (-4)) G (by decide) dX1_runs_142 ?_
  refine zv_istore G (by decide) rfl dX1_runs_144 ?_
  refine zv_iload_n G rfl rfl dX1_runs_146 ?_
  refine zv_istore G (by decide) rfl dX1_runs_147 ?_
  refine zv_iconst (a := 1) G (by decide) dX1_runs_149 ?_
  refine zv_istore G (by decide) rfl dX1_runs_150 ?_
  exact zv_pick [0, 5, 6, 7, 8] rfl (cpT_runs_152 G M S hk rx5 (zr_k (-4) (by decide) (by decide)) rx1 (zr_k 1 (by decide) (by decide)) h)
set_option maxHeartbeats 4000000 in
set_option maxRecDepth 100000 in
theorem cpT_runs_76 {Γ : ZG TW} {D : TD} {B0 d : Nat} {lim : Nat × Nat} (G : ZOk Γ cX1_runs RX1 11 (KnT D B0) (ZT D B0)) (M : ZRm Γ (d + 1) lim (some .int) "runs" []) (S : SdT d D B0 Γ.l lim) (hk : 2 ≤ d) {w : TW} (h : pT_runs_76 (wpT d) (fun v w => Γ.Q (.inl (some (ai v))) w) w) : ZV Γ w 76 [] [] := by
  refine zt_tok G (fun hw => ?_)
  refine zv_iconst (a := (-1)) G (by decide) dX1_runs_76 ?_
  exact zv_iret (ty := .int) (zr_k (-1) (by decide) (by decide)) G M rfl dX1_runs_77 h
set_option maxHeartbeats 4000000 in
set_option maxRecDepth 100000 in
theorem cpT_runs_13 {Γ : ZG TW} {D : TD} {B0 d : Nat} {lim : Nat × Nat} (G : ZOk Γ cX1_runs RX1 11 (KnT D B0) (ZT D B0)) (M : ZRm Γ (d + 1) lim (some .int) "runs" []) (S : SdT d D B0 Γ.l lim) (hk : 2 ≤ d) {x1 : Int} {x2 : Int} {x3 : Int} {x4 : Int} {x5 : Int} {x6 : Int} {w : TW} (rx1 : zr x1) (rx2 : zr x2) (rx3 : zr x3) (rx4 : zr x4) (rx5 : zr x5) (rx6 : zr x6) (h : pT_runs_13 (wpT d) (fun v w => Γ.Q (.inl (some (ai v))) w) x1 x2 x3 x4 x5 x6 w) : ZV Γ w 13 [(0, ar (D.x + 1)), (1, ai x1), (2, ai x2), (3, ai x3), (4, ai x4), (5, ai x5), (6, ai x6)] [] := by
  refine h (fun x6 w => zr x6 → ZV Γ w 13 [(0, ar (D.x + 1)), (1, ai x1), (2, ai x2), (3, ai x3), (4, ai x4), (5, ai x5), (6, ai x6)] []) ?_ rx6
  clear h
  intro x6 w h rx6
  have hI13 : ∀ (x6 : Int) (w : TW), (fun x6 w => zr x6 → ZV Γ w 13 [(0, ar (D.x + 1)), (1, ai x1), (2, ai x2), (3, ai x3), (4, ai x4), (5, ai x5), (6, ai x6)] []) x6 w → zr x6 → ZV Γ w 13 [(0, ar (D.x + 1)), (1, ai x1), (2, ai x2), (3, ai x3), (4, ai x4), (5, ai x5), (6, ai x6)] [] := fun _ _ z => z
  refine zt_tok G (fun hw => ?_)
  refine zv_iload G rfl dX1_runs_13 ?_
  refine zv_aload_n G rfl rfl dX1_runs_15 ?_
  refine zt_get (k := 43) (v := ar (D.ad 43 + 1)) G (by decide) q2198 rfl dX1_runs_16 ?_
  refine zv_iload_n G rfl rfl dX1_runs_19 ?_
  have o4 := h.1
  have h := h.2
  refine zt_iald (f := 43) G (by decide) rfl rx1 o4.1 o4.2 dX1_runs_20 ?_
  refine zv_icmp_ge (tgt := 84) G rx6 (hw.a 43 _ (by decide)) (by decide) dX1_runs_21 (fun c5 => ?_) (fun c5 => ?_)
  · have h := h.1 c5
    exact zv_pick [0, 1, 2, 3, 4, 5] rfl (cpT_runs_84 G M S hk rx1 rx2 rx3 rx4 rx5 h)
  · have h := h.2 c5
    refine zv_iload G rfl dX1_runs_24 ?_
    have kj65 : ∀ v56 : Int, v56 = (if x6 = 0 then x2 else (if x6 = 1 then x3 else x4)) → ZV Γ w 45 [(0, ar (D.x + 1)), (1, ai x1), (2, ai x2), (3, ai x3), (4, ai x4), (5, ai x5), (6, ai x6)] (ai v56 :: []) := by
      intro v56 ev56
      have h := h v56 ev56
      have rv56 : zr v56 := by rw [ev56]; exact (zr_ite rx2 (zr_ite rx3 rx4))
      refine zv_istore G (by decide) rfl dX1_runs_45 ?_
      refine zv_aload_n G rfl rfl dX1_runs_47 ?_
      refine zv_iload G rfl dX1_runs_48 ?_
      refine zt_callI (as := [ai v56]) G M (S 84 _ rfl _ _ _ (fu_isValue (by omega)) (zoks_cons rv56 zoks_nil)) q2905 q2907 qs129 q2908 md_isValue rfl (by decide) (Nat.le_of_ble_eq_true rfl) dX1_runs_50 (fun v57 u58 _ q => ?_)
      obtain ⟨ev57, eu58⟩ := q
      rw [eu58, ev57]
      refine zv_if_eq (tgt := 76) G (fr_isValue hw rv56) (by decide) dX1_runs_53 (fun c59 => ?_) (fun c59 => ?_)
      · have h := h.1 c59
        exact zv_pick [] rfl (cpT_runs_76 G M S hk h)
      · have h := h.2 c59
        refine zv_aload_n G rfl rfl dX1_runs_56 ?_
        refine zv_iload G rfl dX1_runs_57 ?_
        refine zv_aload_n G rfl rfl dX1_runs_59 ?_
        refine zt_get (k := 44) (v := ar (D.ad 44 + 1)) G (by decide) q2199 rfl dX1_runs_60 ?_
        refine zv_iconst (a := 3) G (by decide) dX1_runs_63 ?_
        refine zv_iload_n G rfl rfl dX1_runs_64 ?_
        refine zv_imul G dX1_runs_65 ?_
        refine zv_iload G rfl dX1_runs_66 ?_
        refine zv_iadd G dX1_runs_68 ?_
        have o60 := h.1
        have h := h.2
        refine zt_iald (f := 44) G (by decide) rfl (w32_r _) o60.1 o60.2 dX1_runs_69 ?_
        refine zt_callI (as := [ai v56, ai (tA w 44 (w32 ((w32 (3 * x1)) + x6)))]) G M (S 85 _ rfl _ _ _ h (zoks_cons rv56 (zoks_cons (hw.a 44 _ (by decide)) zoks_nil))) q2909 q2911 qs130 q2912 md_isOfSort rfl (by decide) (Nat.le_of_ble_eq_true rfl) dX1_runs_70 (fun v62 u61 rv62 h => ?_)
        refine zt_tok G (fun hu61 => ?_)
        refine zv_if_ne (tgt := 78) G rv62 (by decide) dX1_runs_73 (fun c63 => ?_) (fun c63 => ?_)
        · have h := h.2 c63
          refine zv_iincN G rfl (by decide) dX1_runs_78 (fun x6_64 ex6_64 => ?_)
          have h := h x6_64 ex6_64
          have rx6_64 : zr x6_64 := by rw [ex6_64]; exact w32_r _
          refine zv_goto (tgt := 13) G (by decide) dX1_runs_81 ?_
          exact zv_pick [0, 1, 2, 3, 4, 5, 6] rfl (hI13 _ _ h rx6_64)
        · have h := h.1 c63
          exact zv_pick [] rfl (cpT_runs_76 G M S hk h)
    refine zv_if_ne (tgt := 33) G rx6 (by decide) dX1_runs_26 (fun c66 => ?_) (fun c66 => ?_)
    · refine zv_iload G rfl dX1_runs_33 ?_
      refine zv_iconst (a := 1) G (by decide) dX1_runs_35 ?_
      refine zv_icmp_ne (tgt := 43) G rx6 (zr_k 1 (by decide) (by decide)) (by decide) dX1_runs_36 (fun c67 => ?_) (fun c67 => ?_)
      · refine zv_iload G rfl dX1_runs_43 ?_
        exact kj65 _ (by rw [if_neg c66, if_neg c67])
      · refine zv_iload_n G rfl rfl dX1_runs_39 ?_
        refine zv_goto (tgt := 45) G (by decide) dX1_runs_40 ?_
        exact kj65 _ (by rw [if_neg c66, if_pos c67])
    · refine zv_iload_n G rfl rfl dX1_runs_29 ?_
      refine zv_goto (tgt := 45) G (by decide) dX1_runs_30 ?_
      exact kj65 _ (by rw [if_pos c66])
set_option maxHeartbeats 4000000 in
set_option maxRecDepth 100000 in
theorem cpT_runs_0 {Γ : ZG TW} {D : TD} {B0 d : Nat} {lim : Nat × Nat} (G : ZOk Γ cX1_runs RX1 11 (KnT D B0) (ZT D B0)) (M : ZRm Γ (d + 1) lim (some .int) "runs" []) (S : SdT d D B0 Γ.l lim) (hk : 2 ≤ d) {x1 : Int} {x2 : Int} {x3 : Int} {x4 : Int} {x5 : Int} {w : TW} (rx1 : zr x1) (rx2 : zr x2) (rx3 : zr x3) (rx4 : zr x4) (rx5 : zr x5) (h : pT_runs_0 (wpT d) (fun v w => Γ.Q (.inl (some (ai v))) w) x1 x2 x3 x4 x5 w) : ZV Γ w 0 [(0, ar (D.x + 1)), (1, ai x1), (2, ai x2), (3, ai x3), (4, ai x4), (5, ai x5)] [] := by
  refine zt_tok G (fun hw => ?_)
  refine zv_aload_n G rfl rfl dX1_runs_0 ?_
  refine zv_iload_n G rfl rfl dX1_runs_1 ?_
  refine zt_callI (as := [ai x1]) G M (S 67 _ rfl _ _ _ (fu_isFunction (by omega)) (zoks_cons rx1 zoks_nil)) q2836 q2838 qs125 q2839 md_isFunction rfl (by decide) (Nat.le_of_ble_eq_true rfl) dX1_runs_2 (fun v1 u2 _ q => ?_)
  obtain ⟨ev1, eu2⟩ := q
  rw [eu2, ev1]
  refine zv_if_ne (tgt := 10) G (fr_isFunction hw rx1) (by decide) dX1_runs_5 (fun c3 => ?_) (fun c3 => ?_)
  · have h := h.2 c3
    refine zv_iconst (a := 0) G (by decide) dX1_runs_10 ?_
    refine zv_istore G (by decide) rfl dX1_runs_11 ?_
    exact zv_pick [0, 1, 2, 3, 4, 5, 6] rfl (cpT_runs_13 G M S hk rx1 rx2 rx3 rx4 rx5 (zr_k 0 (by decide) (by decide)) h)
  · have h := h.1 c3
    refine zv_iconst (a := (-1)) G (by decide) dX1_runs_8 ?_
    exact zv_iret (ty := .int) (zr_k (-1) (by decide) (by decide)) G M rfl dX1_runs_9 h
set_option maxHeartbeats 4000000 in
set_option maxRecDepth 100000 in
theorem cpT_sort_0 {Γ : ZG TW} {D : TD} {B0 d : Nat} {lim : Nat × Nat} (G : ZOk Γ cX1_sort RX1 5 (KnT D B0) (ZT D B0)) (M : ZRm Γ (d + 1) lim (some .int) "sort" []) (S : SdT d D B0 Γ.l lim) (hk : 0 ≤ d) {x1 : Int} {x2 : Int} {x3 : Int} {x4 : Int} {w : TW} (rx1 : zr x1) (rx2 : zr x2) (rx3 : zr x3) (rx4 : zr x4) (h : pT_sort_0 (wpT d) (fun v w => Γ.Q (.inl (some (ai v))) w) x1 x2 x3 x4 w) : ZV Γ w 0 [(0, ar (D.x + 1)), (1, ai x1), (2, ai x2), (3, ai x3), (4, ai x4)] [] := by
  refine zt_tok G (fun hw => ?_)
  refine zv_aload_n G rfl rfl dX1_sort_0 ?_
  refine zv_iload_n G rfl rfl dX1_sort_1 ?_
  refine zv_iload_n G rfl rfl dX1_sort_2 ?_
  refine zv_iload_n G rfl rfl dX1_sort_3 ?_
  refine zv_iload G rfl dX1_sort_4 ?_
  refine zv_iconst (a := 1) G (by decide) dX1_sort_6 ?_
  refine zt_callI (as := [ai x1, ai x2, ai x3, ai x4, ai 1]) G M (S 89 _ rfl _ _ _ h (zoks_cons rx1 (zoks_cons rx2 (zoks_cons rx3 (zoks_cons rx4 (zoks_cons (zr_k 1 (by decide) (by decide)) zoks_nil)))))) q2926 q2928 qs131 q2929 md_runs rfl (by decide) (Nat.le_of_ble_eq_true rfl) dX1_sort_7 (fun v2 u1 rv2 h => ?_)
  refine zt_tok G (fun hu1 => ?_)
  exact zv_iret (ty := .int) rv2 G M rfl dX1_sort_10 h
set_option maxHeartbeats 4000000 in
set_option maxRecDepth 100000 in
theorem cpT_plain_0 {Γ : ZG TW} {D : TD} {B0 d : Nat} {lim : Nat × Nat} (G : ZOk Γ cX1_plain RX1 5 (KnT D B0) (ZT D B0)) (M : ZRm Γ (d + 1) lim (some .int) "plain" []) (S : SdT d D B0 Γ.l lim) (hk : 0 ≤ d) {x1 : Int} {x2 : Int} {x3 : Int} {x4 : Int} {w : TW} (rx1 : zr x1) (rx2 : zr x2) (rx3 : zr x3) (rx4 : zr x4) (h : pT_plain_0 (wpT d) (fun v w => Γ.Q (.inl (some (ai v))) w) x1 x2 x3 x4 w) : ZV Γ w 0 [(0, ar (D.x + 1)), (1, ai x1), (2, ai x2), (3, ai x3), (4, ai x4)] [] := by
  refine zt_tok G (fun hw => ?_)
  refine zv_aload_n G rfl rfl dX1_plain_0 ?_
  refine zv_iload_n G rfl rfl dX1_plain_1 ?_
  refine zv_iload_n G rfl rfl dX1_plain_2 ?_
  refine zv_iload_n G rfl rfl dX1_plain_3 ?_
  refine zv_iload G rfl dX1_plain_4 ?_
  refine zv_iconst (a := 0) G (by decide) dX1_plain_6 ?_
  refine zt_callI (as := [ai x1, ai x2, ai x3, ai x4, ai 0]) G M (S 89 _ rfl _ _ _ h (zoks_cons rx1 (zoks_cons rx2 (zoks_cons rx3 (zoks_cons rx4 (zoks_cons (zr_k 0 (by decide) (by decide)) zoks_nil)))))) q2926 q2928 qs131 q2929 md_runs rfl (by decide) (Nat.le_of_ble_eq_true rfl) dX1_plain_7 (fun v2 u1 rv2 h => ?_)
  refine zt_tok G (fun hu1 => ?_)
  exact zv_iret (ty := .int) rv2 G M rfl dX1_plain_10 h
set_option maxHeartbeats 4000000 in
set_option maxRecDepth 100000 in
theorem cpT_told_0 {Γ : ZG TW} {D : TD} {B0 d : Nat} {lim : Nat × Nat} (G : ZOk Γ cX1_told RX1 2 (KnT D B0) (ZT D B0)) (M : ZRm Γ (d + 1) lim (some .int) "told" []) (S : SdT d D B0 Γ.l lim) (hk : 1 ≤ d) {x1 : Int} {w : TW} (rx1 : zr x1) (h : pT_told_0 (wpT d) (fun v w => Γ.Q (.inl (some (ai v))) w) x1 w) : ZV Γ w 0 [(0, ar (D.x + 1)), (1, ai x1)] [] := by
  refine zt_tok G (fun hw => ?_)
  refine zv_iload_n G rfl rfl dX1_told_0 ?_
  refine zv_i2l G rx1 dX1_told_1 ?_
  refine zv_lconst (a := 0) G (by decide) dX1_told_2 ?_
  refine zv_ldc2 (a := 6) G (G.kn.2.1 _ q2917 _) (by decide) dX1_told_3 ?_
  refine zt_callSI (as := [al x1, al 0, al 6]) G M (S 1 _ rfl _ _ _ (fu_in (by omega)) (zoks_cons (zrl_i rx1) (zoks_cons (zrl_k 0 (by decide) (by decide)) (zoks_cons (zrl_k 6 (by decide) (by decide)) zoks_nil)))) q2552 q2553 q2554 md_in rfl (by decide) (Nat.le_of_ble_eq_true rfl) dX1_told_6 (fun v1 u2 _ q => ?_)
  obtain ⟨ev1, eu2⟩ := q
  rw [eu2, ev1]
  refine zv_if_ne (tgt := 14) G (fr_in hw (zrl_i rx1) (zrl_k 0 (by decide) (by decide)) (zrl_k 6 (by decide) (by decide))) (by decide) dX1_told_9 (fun c3 => ?_) (fun c3 => ?_)
  · have h := h.2 c3
    refine zv_aload_n G rfl rfl dX1_told_14 ?_
    refine zt_get (k := 126) (v := ai (tI w 126)) G (by decide) q2281 rfl dX1_told_15 ?_
    refine zv_if_ne (tgt := 23) G (hw.i 126 (by decide)) (by decide) dX1_told_18 (fun c4 => ?_) (fun c4 => ?_)
    · have h := h.2 c4
      refine zv_iload_n G rfl rfl dX1_told_23 ?_
      have kj6 : ∀ v5 : Int, v5 = (if x1 = 0 then tI w 119 else (if x1 = 1 then tI w 120 else (if x1 = 2 then tI w 121 else (if x1 = 3 then tI w 122 else (if x1 = 4 then tI w 123 else (if x1 = 5 then tI w 124 else tI w 125)))))) → ZV Γ w 98 [(0, ar (D.x + 1)), (1, ai x1)] (ai v5 :: []) := by
        intro v5 ev5
        have h := h v5 ev5
        have rv5 : zr v5 := by rw [ev5]; exact (zr_ite (hw.i 119 (by decide)) (zr_ite (hw.i 120 (by decide)) (zr_ite (hw.i 121 (by decide)) (zr_ite (hw.i 122 (by decide)) (zr_ite (hw.i 123 (by decide)) (zr_ite (hw.i 124 (by decide)) (hw.i 125 (by decide))))))))
        exact zv_iret (ty := .int) rv5 G M rfl dX1_told_98 h
      refine zv_if_ne (tgt := 34) G rx1 (by decide) dX1_told_24 (fun c7 => ?_) (fun c7 => ?_)
      · refine zv_iload_n G rfl rfl dX1_told_34 ?_
        refine zv_iconst (a := 1) G (by decide) dX1_told_35 ?_
        refine zv_icmp_ne (tgt := 46) G rx1 (zr_k 1 (by decide) (by decide)) (by decide) dX1_told_36 (fun c8 => ?_) (fun c8 => ?_)
        · refine zv_iload_n G rfl rfl dX1_told_46 ?_
          refine zv_iconst (a := 2) G (by decide) dX1_told_47 ?_
          refine zv_icmp_ne (tgt := 58) G rx1 (zr_k 2 (by decide) (by decide)) (by decide) dX1_told_48 (fun c9 => ?_) (fun c9 => ?_)
          · refine zv_iload_n G rfl rfl dX1_told_58 ?_
            refine zv_iconst (a := 3) G (by decide) dX1_told_59 ?_
            refine zv_icmp_ne (tgt := 70) G rx1 (zr_k 3 (by decide) (by decide)) (by decide) dX1_told_60 (fun c10 => ?_) (fun c10 => ?_)
            · refine zv_iload_n G rfl rfl dX1_told_70 ?_
              refine zv_iconst (a := 4) G (by decide) dX1_told_71 ?_
              refine zv_icmp_ne (tgt := 82) G rx1 (zr_k 4 (by decide) (by decide)) (by decide) dX1_told_72 (fun c11 => ?_) (fun c11 => ?_)
              · refine zv_iload_n G rfl rfl dX1_told_82 ?_
                refine zv_iconst (a := 5) G (by decide) dX1_told_83 ?_
                refine zv_icmp_ne (tgt := 94) G rx1 (zr_k 5 (by decide) (by decide)) (by decide) dX1_told_84 (fun c12 => ?_) (fun c12 => ?_)
                · refine zv_aload_n G rfl rfl dX1_told_94 ?_
                  refine zt_get (k := 125) (v := ai (tI w 125)) G (by decide) q2280 rfl dX1_told_95 ?_
                  exact kj6 _ (by rw [if_neg c7, if_neg c8, if_neg c9, if_neg c10, if_neg c11, if_neg c12])
                · refine zv_aload_n G rfl rfl dX1_told_87 ?_
                  refine zt_get (k := 124) (v := ai (tI w 124)) G (by decide) q2279 rfl dX1_told_88 ?_
                  refine zv_goto (tgt := 98) G (by decide) dX1_told_91 ?_
                  exact kj6 _ (by rw [if_neg c7, if_neg c8, if_neg c9, if_neg c10, if_neg c11, if_pos c12])
              · refine zv_aload_n G rfl rfl dX1_told_75 ?_
                refine zt_get (k := 123) (v := ai (tI w 123)) G (by decide) q2278 rfl dX1_told_76 ?_
                refine zv_goto (tgt := 98) G (by decide) dX1_told_79 ?_
                exact kj6 _ (by rw [if_neg c7, if_neg c8, if_neg c9, if_neg c10, if_pos c11])
            · refine zv_aload_n G rfl rfl dX1_told_63 ?_
              refine zt_get (k := 122) (v := ai (tI w 122)) G (by decide) q2277 rfl dX1_told_64 ?_
              refine zv_goto (tgt := 98) G (by decide) dX1_told_67 ?_
              exact kj6 _ (by rw [if_neg c7, if_neg c8, if_neg c9, if_pos c10])
          · refine zv_aload_n G rfl rfl dX1_told_51 ?_
            refine zt_get (k := 121) (v := ai (tI w 121)) G (by decide) q2276 rfl dX1_told_52 ?_
            refine zv_goto (tgt := 98) G (by decide) dX1_told_55 ?_
            exact kj6 _ (by rw [if_neg c7, if_neg c8, if_pos c9])
        · refine zv_aload_n G rfl rfl dX1_told_39 ?_
          refine zt_get (k := 120) (v := ai (tI w 120)) G (by decide) q2275 rfl dX1_told_40 ?_
          refine zv_goto (tgt := 98) G (by decide) dX1_told_43 ?_
          exact kj6 _ (by rw [if_neg c7, if_pos c8])
      · refine zv_aload_n G rfl rfl dX1_told_27 ?_
        refine zt_get (k := 119) (v := ai (tI w 119)) G (by decide) q2274 rfl dX1_told_28 ?_
        refine zv_goto (tgt := 98) G (by decide) dX1_told_31 ?_
        exact kj6 _ (by rw [if_pos c7])
    · have h := h.1 c4
      refine zv_iconst (a := 0) G (by decide) dX1_told_21 ?_
      exact zv_iret (ty := .int) (zr_k 0 (by decide) (by decide)) G M rfl dX1_told_22 h
  · have h := h.1 c3
    refine zv_iconst (a := (-1)) G (by decide) dX1_told_12 ?_
    exact zv_iret (ty := .int) (zr_k (-1) (by decide) (by decide)) G M rfl dX1_told_13 h
set_option maxHeartbeats 4000000 in
set_option maxRecDepth 100000 in
theorem cpT_guard_0 {Γ : ZG TW} {D : TD} {B0 d : Nat} {lim : Nat × Nat} (G : ZOk Γ cX1_guard RX1 2 (KnT D B0) (ZT D B0)) (M : ZRm Γ (d + 1) lim (some .int) "guard" []) (S : SdT d D B0 Γ.l lim) (hk : 1 ≤ d) {x1 : Int} {w : TW} (rx1 : zr x1) (h : pT_guard_0 (wpT d) (fun v w => Γ.Q (.inl (some (ai v))) w) x1 w) : ZV Γ w 0 [(0, ar (D.x + 1)), (1, ai x1)] [] := by
  refine zt_tok G (fun hw => ?_)
  refine zv_iload_n G rfl rfl dX1_guard_0 ?_
  refine zv_i2l G rx1 dX1_guard_1 ?_
  refine zv_lconst (a := 0) G (by decide) dX1_guard_2 ?_
  refine zv_aload_n G rfl rfl dX1_guard_3 ?_
  refine zt_get (k := 123) (v := ai (tI w 123)) G (by decide) q2278 rfl dX1_guard_4 ?_
  refine zv_bipush (a := 32) G (by decide) dX1_guard_7 ?_
  have kj8 : ∀ v1 : Int, v1 = (if ¬ (32 ≤ (tI w 123)) then tI w 123 else 32) → ZV Γ w 21 [(0, ar (D.x + 1)), (1, ai x1)] (ai v1 :: al 0 :: al x1 :: []) := by
    intro v1 ev1
    have h := h v1 ev1
    have rv1 : zr v1 := by rw [ev1]; exact (zr_ite (hw.i 123 (by decide)) (zr_k 32 (by decide) (by decide)))
    refine zv_iconst (a := 1) G (by decide) dX1_guard_21 ?_
    refine zv_isub G dX1_guard_22 ?_
    refine zv_i2l G (w32_r _) dX1_guard_23 ?_
    refine zt_callSI (as := [al x1, al 0, al (w32 (v1 - 1))]) G M (S 1 _ rfl _ _ _ (fu_in (by omega)) (zoks_cons (zrl_i rx1) (zoks_cons (zrl_k 0 (by decide) (by decide)) (zoks_cons (zrl_i (w32_r _)) zoks_nil)))) q2552 q2553 q2554 md_in rfl (by decide) (Nat.le_of_ble_eq_true rfl) dX1_guard_24 (fun v2 u3 _ q => ?_)
    obtain ⟨ev2, eu3⟩ := q
    rw [eu3, ev2]
    have o5 := h.1
    have h := h.2
    have kj6 : ∀ v4 : Int, v4 = (if ¬ ((ff_in x1 0 (w32 (v1 - 1)) w) = 0) then tA w 127 x1 else (-4)) → ZV Γ w 41 [(0, ar (D.x + 1)), (1, ai x1)] (ai v4 :: []) := by
      intro v4 ev4
      have h := h v4 ev4
      have rv4 : zr v4 := by rw [ev4]; exact (zr_ite (hw.a 127 _ (by decide)) (zr_k (-4) (by decide) (by decide)))
      exact zv_iret (ty := .int) rv4 G M rfl dX1_guard_41 h
    refine zv_if_eq (tgt := 39) G (fr_in hw (zrl_i rx1) (zrl_k 0 (by decide) (by decide)) (zrl_i (w32_r _))) (by decide) dX1_guard_27 (fun c7 => ?_) (fun c7 => ?_)
    · refine zv_bipush (a := (-4)) G (by decide) dX1_guard_39 ?_
      exact kj6 _ (if_neg (fun q => q c7)).symm
    · refine zv_aload_n G rfl rfl dX1_guard_30 ?_
      refine zt_get (k := 127) (v := ar (D.ad 127 + 1)) G (by decide) q2282 rfl dX1_guard_31 ?_
      refine zv_iload_n G rfl rfl dX1_guard_34 ?_
      refine zt_iald (f := 127) G (by decide) rfl rx1 (o5 c7).1 (o5 c7).2 dX1_guard_35 ?_
      refine zv_goto (tgt := 41) G (by decide) dX1_guard_36 ?_
      exact kj6 _ (if_pos c7).symm
  refine zv_icmp_ge (tgt := 19) G (hw.i 123 (by decide)) (zr_k 32 (by decide) (by decide)) (by decide) dX1_guard_9 (fun c9 => ?_) (fun c9 => ?_)
  · refine zv_bipush (a := 32) G (by decide) dX1_guard_19 ?_
    exact kj8 _ (if_neg (fun q => q c9)).symm
  · refine zv_aload_n G rfl rfl dX1_guard_12 ?_
    refine zt_get (k := 123) (v := ai (tI w 123)) G (by decide) q2278 rfl dX1_guard_13 ?_
    refine zv_goto (tgt := 21) G (by decide) dX1_guard_16 ?_
    exact kj8 _ (if_pos c9).symm
set_option maxHeartbeats 4000000 in
set_option maxRecDepth 100000 in
theorem cpT_bound_0 {Γ : ZG TW} {D : TD} {B0 d : Nat} {lim : Nat × Nat} (G : ZOk Γ cX1_bound RX1 2 (KnT D B0) (ZT D B0)) (M : ZRm Γ (d + 1) lim (some .int) "bound" []) (S : SdT d D B0 Γ.l lim) (hk : 1 ≤ d) {x1 : Int} {w : TW} (rx1 : zr x1) (h : pT_bound_0 (wpT d) (fun v w => Γ.Q (.inl (some (ai v))) w) x1 w) : ZV Γ w 0 [(0, ar (D.x + 1)), (1, ai x1)] [] := by
  refine zt_tok G (fun hw => ?_)
  refine zv_iload_n G rfl rfl dX1_bound_0 ?_
  refine zv_i2l G rx1 dX1_bound_1 ?_
  refine zv_lconst (a := 0) G (by decide) dX1_bound_2 ?_
  refine zv_aload_n G rfl rfl dX1_bound_3 ?_
  refine zt_get (k := 128) (v := ai (tI w 128)) G (by decide) q2283 rfl dX1_bound_4 ?_
  refine zv_iconst (a := 1) G (by decide) dX1_bound_7 ?_
  refine zv_isub G dX1_bound_8 ?_
  refine zv_i2l G (w32_r _) dX1_bound_9 ?_
  refine zt_callSI (as := [al x1, al 0, al (w32 ((tI w 128) - 1))]) G M (S 1 _ rfl _ _ _ (fu_in (by omega)) (zoks_cons (zrl_i rx1) (zoks_cons (zrl_k 0 (by decide) (by decide)) (zoks_cons (zrl_i (w32_r _)) zoks_nil)))) q2552 q2553 q2554 md_in rfl (by decide) (Nat.le_of_ble_eq_true rfl) dX1_bound_10 (fun v1 u2 _ q => ?_)
  obtain ⟨ev1, eu2⟩ := q
  rw [eu2, ev1]
  have o4 := h.1
  have h := h.2
  have kj5 : ∀ v3 : Int, v3 = (if ¬ ((ff_in x1 0 (w32 ((tI w 128) - 1)) w) = 0) then tA w 129 x1 else (-4)) → ZV Γ w 27 [(0, ar (D.x + 1)), (1, ai x1)] (ai v3 :: []) := by
    intro v3 ev3
    have h := h v3 ev3
    have rv3 : zr v3 := by rw [ev3]; exact (zr_ite (hw.a 129 _ (by decide)) (zr_k (-4) (by decide) (by decide)))
    exact zv_iret (ty := .int) rv3 G M rfl dX1_bound_27 h
  refine zv_if_eq (tgt := 25) G (fr_in hw (zrl_i rx1) (zrl_k 0 (by decide) (by decide)) (zrl_i (w32_r _))) (by decide) dX1_bound_13 (fun c6 => ?_) (fun c6 => ?_)
  · refine zv_bipush (a := (-4)) G (by decide) dX1_bound_25 ?_
    exact kj5 _ (if_neg (fun q => q c6)).symm
  · refine zv_aload_n G rfl rfl dX1_bound_16 ?_
    refine zt_get (k := 129) (v := ar (D.ad 129 + 1)) G (by decide) q2284 rfl dX1_bound_17 ?_
    refine zv_iload_n G rfl rfl dX1_bound_20 ?_
    refine zt_iald (f := 129) G (by decide) rfl rx1 (o4 c6).1 (o4 c6).2 dX1_bound_21 ?_
    refine zv_goto (tgt := 27) G (by decide) dX1_bound_22 ?_
    exact kj5 _ (if_pos c6).symm
set_option maxHeartbeats 4000000 in
set_option maxRecDepth 100000 in
theorem cpT_count_0 {Γ : ZG TW} {D : TD} {B0 d : Nat} {lim : Nat × Nat} (G : ZOk Γ cX1_count RX1 2 (KnT D B0) (ZT D B0)) (M : ZRm Γ (d + 1) lim (some .int) "count" []) (S : SdT d D B0 Γ.l lim) (hk : 0 ≤ d) {x1 : Int} {w : TW} (rx1 : zr x1) (h : pT_count_0 (wpT d) (fun v w => Γ.Q (.inl (some (ai v))) w) x1 w) : ZV Γ w 0 [(0, ar (D.x + 1)), (1, ai x1)] [] := by
  refine zt_tok G (fun hw => ?_)
  refine zv_iload_n G rfl rfl dX1_count_0 ?_
  have kj2 : ∀ v1 : Int, v1 = (if x1 = 0 then tI w 10 else (if x1 = 1 then tI w 41 else (if x1 = 2 then tI w 109 else (if x1 = 3 then tI w 1 else (if x1 = 4 then tI w 11 else (-1)))))) → ZV Γ w 60 [(0, ar (D.x + 1)), (1, ai x1)] (ai v1 :: []) := by
    intro v1 ev1
    have h := h v1 ev1
    have rv1 : zr v1 := by rw [ev1]; exact (zr_ite (hw.i 10 (by decide)) (zr_ite (hw.i 41 (by decide)) (zr_ite (hw.i 109 (by decide)) (zr_ite (hw.i 1 (by decide)) (zr_ite (hw.i 11 (by decide)) (zr_k (-1) (by decide) (by decide)))))))
    exact zv_iret (ty := .int) rv1 G M rfl dX1_count_60 h
  refine zv_if_ne (tgt := 11) G rx1 (by decide) dX1_count_1 (fun c3 => ?_) (fun c3 => ?_)
  · refine zv_iload_n G rfl rfl dX1_count_11 ?_
    refine zv_iconst (a := 1) G (by decide) dX1_count_12 ?_
    refine zv_icmp_ne (tgt := 23) G rx1 (zr_k 1 (by decide) (by decide)) (by decide) dX1_count_13 (fun c4 => ?_) (fun c4 => ?_)
    · refine zv_iload_n G rfl rfl dX1_count_23 ?_
      refine zv_iconst (a := 2) G (by decide) dX1_count_24 ?_
      refine zv_icmp_ne (tgt := 35) G rx1 (zr_k 2 (by decide) (by decide)) (by decide) dX1_count_25 (fun c5 => ?_) (fun c5 => ?_)
      · refine zv_iload_n G rfl rfl dX1_count_35 ?_
        refine zv_iconst (a := 3) G (by decide) dX1_count_36 ?_
        refine zv_icmp_ne (tgt := 47) G rx1 (zr_k 3 (by decide) (by decide)) (by decide) dX1_count_37 (fun c6 => ?_) (fun c6 => ?_)
        · refine zv_iload_n G rfl rfl dX1_count_47 ?_
          refine zv_iconst (a := 4) G (by decide) dX1_count_48 ?_
          refine zv_icmp_ne (tgt := 59) G rx1 (zr_k 4 (by decide) (by decide)) (by decide) dX1_count_49 (fun c7 => ?_) (fun c7 => ?_)
          · refine zv_iconst (a := (-1)) G (by decide) dX1_count_59 ?_
            exact kj2 _ (by rw [if_neg c3, if_neg c4, if_neg c5, if_neg c6, if_neg c7])
          · refine zv_aload_n G rfl rfl dX1_count_52 ?_
            refine zt_get (k := 11) (v := ai (tI w 11)) G (by decide) q2166 rfl dX1_count_53 ?_
            refine zv_goto (tgt := 60) G (by decide) dX1_count_56 ?_
            exact kj2 _ (by rw [if_neg c3, if_neg c4, if_neg c5, if_neg c6, if_pos c7])
        · refine zv_aload_n G rfl rfl dX1_count_40 ?_
          refine zt_get (k := 1) (v := ai (tI w 1)) G (by decide) q2156 rfl dX1_count_41 ?_
          refine zv_goto (tgt := 60) G (by decide) dX1_count_44 ?_
          exact kj2 _ (by rw [if_neg c3, if_neg c4, if_neg c5, if_pos c6])
      · refine zv_aload_n G rfl rfl dX1_count_28 ?_
        refine zt_get (k := 109) (v := ai (tI w 109)) G (by decide) q2264 rfl dX1_count_29 ?_
        refine zv_goto (tgt := 60) G (by decide) dX1_count_32 ?_
        exact kj2 _ (by rw [if_neg c3, if_neg c4, if_pos c5])
    · refine zv_aload_n G rfl rfl dX1_count_16 ?_
      refine zt_get (k := 41) (v := ai (tI w 41)) G (by decide) q2196 rfl dX1_count_17 ?_
      refine zv_goto (tgt := 60) G (by decide) dX1_count_20 ?_
      exact kj2 _ (by rw [if_neg c3, if_pos c4])
  · refine zv_aload_n G rfl rfl dX1_count_4 ?_
    refine zt_get (k := 10) (v := ai (tI w 10)) G (by decide) q2165 rfl dX1_count_5 ?_
    refine zv_goto (tgt := 60) G (by decide) dX1_count_8 ?_
    exact kj2 _ (by rw [if_pos c3])
end ZCT4
