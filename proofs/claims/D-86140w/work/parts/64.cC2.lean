/-! walks of the component's methods, printed by tools/comp.py -/
section ZCC2
set_option maxHeartbeats 4000000 in
set_option maxRecDepth 100000 in
theorem cpC_X0_node_21 {Γ : ZG CW} {D : CD} {d p : Nat} (hp : D.K.1 = p) (G : ZOk Γ cX0_node RX0 5 (KnC D) (ZC D)) (M : ZRm Γ (d + 1) D.lim (Option.some Jvm.ClassFile.FieldType.int) "node" []) (S : SdC d D p Γ.l) (hl : Γ.l.stackTraces = false) (hk : 0 ≤ d) {w : CW} (h : pC_X0_node_21 p (wpC p d) (fun v w => Γ.Q (.inl (some (ai v))) w) w) : ZV Γ w 21 [] [] := by
  refine zc_wk G hp (fun hw tw => ?_)
  refine zv_iconst (a := (-1)) G (by decide) dX0_node_21 ?_
  exact zv_iret (ty := .int) (zr_k (-1) (by decide) (by decide)) G M rfl dX0_node_22 h
set_option maxHeartbeats 4000000 in
set_option maxRecDepth 100000 in
theorem cpC_X0_node_146 {Γ : ZG CW} {D : CD} {d p : Nat} (hp : D.K.1 = p) (G : ZOk Γ cX0_node RX0 5 (KnC D) (ZC D)) (M : ZRm Γ (d + 1) D.lim (Option.some Jvm.ClassFile.FieldType.int) "node" []) (S : SdC d D p Γ.l) (hl : Γ.l.stackTraces = false) (hk : 0 ≤ d) {s0 : Int} {w : CW} (rs0 : zr s0) (h : pC_X0_node_146 p (wpC p d) (fun v w => Γ.Q (.inl (some (ai v))) w) s0 w) : ZV Γ w 146 [] [ai s0] := by
  refine zc_wk G hp (fun hw tw => ?_)
  exact zv_iret (ty := .int) rs0 G M rfl dX0_node_146 h
set_option maxHeartbeats 4000000 in
set_option maxRecDepth 100000 in
theorem cpC_X0_node_95 {Γ : ZG CW} {D : CD} {d p : Nat} (hp : D.K.1 = p) (G : ZOk Γ cX0_node RX0 5 (KnC D) (ZC D)) (M : ZRm Γ (d + 1) D.lim (Option.some Jvm.ClassFile.FieldType.int) "node" []) (S : SdC d D p Γ.l) (hl : Γ.l.stackTraces = false) (hk : 0 ≤ d) {s0 : Int} {w : CW} (rs0 : zr s0) (h : pC_X0_node_95 p (wpC p d) (fun v w => Γ.Q (.inl (some (ai v))) w) s0 w) : ZV Γ w 95 [] [ai s0] := by
  refine zc_wk G hp (fun hw tw => ?_)
  exact zv_iret (ty := .int) rs0 G M rfl dX0_node_95 h
set_option maxHeartbeats 4000000 in
set_option maxRecDepth 100000 in
theorem cpC_X0_node_124 {Γ : ZG CW} {D : CD} {d p : Nat} (hp : D.K.1 = p) (G : ZOk Γ cX0_node RX0 5 (KnC D) (ZC D)) (M : ZRm Γ (d + 1) D.lim (Option.some Jvm.ClassFile.FieldType.int) "node" []) (S : SdC d D p Γ.l) (hl : Γ.l.stackTraces = false) (hk : 0 ≤ d) {s0 : Int} {w : CW} (rs0 : zr s0) (h : pC_X0_node_124 p (wpC p d) (fun v w => Γ.Q (.inl (some (ai v))) w) s0 w) : ZV Γ w 124 [] [ai s0] := by
  refine zc_wk G hp (fun hw tw => ?_)
  exact zv_iret (ty := .int) rs0 G M rfl dX0_node_124 h
set_option maxHeartbeats 4000000 in
set_option maxRecDepth 100000 in
theorem cpC_X0_node_0 {Γ : ZG CW} {D : CD} {d p : Nat} (hp : D.K.1 = p) (G : ZOk Γ cX0_node RX0 5 (KnC D) (ZC D)) (M : ZRm Γ (d + 1) D.lim (Option.some Jvm.ClassFile.FieldType.int) "node" []) (S : SdC d D p Γ.l) (hl : Γ.l.stackTraces = false) (hk : 0 ≤ d) {x1 : Int} {x2 : Int} {x3 : Int} {w : CW} (rx1 : zr x1) (rx2 : zr x2) (rx3 : zr x3) (h : pC_X0_node_0 p (wpC p d) (fun v w => Γ.Q (.inl (some (ai v))) w) x1 x2 x3 w) : ZV Γ w 0 [(0, ar p), (1, ai x1), (2, ai x2), (3, ai x3)] [] := by
  refine zc_wk G hp (fun hw tw => ?_)
  refine zv_aload_n G rfl rfl dX0_node_0 ?_
  refine zv_iload_n G rfl rfl dX0_node_1 ?_
  refine zv_iload_n G rfl rfl dX0_node_2 ?_
  refine zv_callI (as := [ar p, ai x1, ai x2]) (st := []) G M (zc_eV (C := zcn 1) G q1598 q1600 qs55 (Or.inl ⟨rfl, rfl⟩) q1601 md_X0_isNode (zc_rc G (zne tw tw.1 (by decide)) tw.1 (by decide) (by decide) rfl) rfl dX0_node_3) (S 53 _ rfl _ _ _ h (zoks_cons trivial (zoks_cons rx1 (zoks_cons rx2 zoks_nil)))) (Or.inl ⟨rfl, rfl⟩) (zc_hk q1601 q143) (by decide) (Nat.le_of_ble_eq_true rfl) (fun v2 u1 rv2 h => ?_) (fun _ _ h => h.elim)
  refine zc_wk G hp (fun hu1 tu1 => ?_)
  refine zv_if_eq (tgt := 21) G rv2 (by decide) dX0_node_6 (fun c3 => ?_) (fun c3 => ?_)
  · have h := h.1 c3
    exact zv_pick [] rfl (cpC_X0_node_21 hp G M S hl hk h)
  · have h := h.2 c3
    refine zv_iload_n G rfl rfl dX0_node_9 ?_
    refine zv_i2l G rx3 dX0_node_10 ?_
    refine zv_lconst (a := 0) G (by decide) dX0_node_11 ?_
    refine zv_ldc2 (a := 4) G (G.kn.2.1 _ q1602 _) (by decide) dX0_node_12 ?_
    refine zv_callI (as := [al x3, al 0, al 4]) (st := []) G M (zc_eS G q199 q200 q143 q201 md_X0_isIn rfl dX0_node_15) (S 1 _ rfl _ _ _ h (zoks_cons (zrl_i rx3) (zoks_cons (zrl_k 0 (by decide) (by decide)) (zoks_cons (zrl_k 4 (by decide) (by decide)) zoks_nil)))) (Or.inl ⟨rfl, rfl⟩) (zc_hk q201 q143) (by decide) (Nat.le_of_ble_eq_true rfl) (fun v5 u4 rv5 h => ?_) (fun _ _ h => h.elim)
    refine zc_wk G hp (fun hu4 tu4 => ?_)
    refine zv_if_ne (tgt := 23) G rv5 (by decide) dX0_node_18 (fun c6 => ?_) (fun c6 => ?_)
    · have h := h.2 c6
      refine zv_aload_n G rfl rfl dX0_node_23 ?_
      refine zc_get (f := 5) (v := ar (fR u4 5 p)) G (hFp tu4 rfl) rfl q2061 (Or.inl rfl) (cV_R rfl) dX0_node_24 ?_
      refine zv_iload_n G rfl rfl dX0_node_27 ?_
      have o7 := h.1
      have h := h.2
      refine zc_aald G o7.1 rx1 o7.2.1 o7.2.2 dX0_node_28 ?_
      have o8 := h.1
      have h := h.2
      refine zc_get (f := 52) (v := ar (fR u4 52 (aR u4 (fR u4 5 p) x1))) G o8 rfl q761 (Or.inl rfl) (cV_R rfl) dX0_node_29 ?_
      refine zv_iload_n G rfl rfl dX0_node_32 ?_
      have o93 := h.1
      have h := h.2
      have en94 : ZEn Γ u4 33 [(0, ar p), (1, ai x1), (2, ai x2), (3, ai x3)] yX21_find 3 [ar (fR u4 52 (aR u4 (fR u4 5 p) x1)), ai x2] [] := by
        rcases o93 with z | z | z | z | z | z | z
        · exact (zc_eV (C := zcn 19) G q1603 q1604 q1611 (Or.inl ⟨rfl, rfl⟩) q1613 md_X21_find (zc_rc G (zne tu4 z (by decide)) z (by decide) (by decide) rfl) rfl dX0_node_33)
        · exact (zc_eV (C := zcn 20) G q1603 q1604 q1606 (Or.inl ⟨rfl, rfl⟩) q1613 md_X21_find (zc_rc G (zne tu4 z (by decide)) z (by decide) (by decide) rfl) rfl dX0_node_33)
        · exact (zc_eV (C := zcn 21) G q1603 q1604 q1607 (Or.inl ⟨rfl, rfl⟩) q1613 md_X21_find (zc_rc G (zne tu4 z (by decide)) z (by decide) (by decide) rfl) rfl dX0_node_33)
        · exact (zc_eV (C := zcn 22) G q1603 q1604 q1608 (Or.inl ⟨rfl, rfl⟩) q1613 md_X21_find (zc_rc G (zne tu4 z (by decide)) z (by decide) (by decide) rfl) rfl dX0_node_33)
        · exact (zc_eV (C := zcn 23) G q1603 q1604 q1610 (Or.inl ⟨rfl, rfl⟩) q1613 md_X21_find (zc_rc G (zne tu4 z (by decide)) z (by decide) (by decide) rfl) rfl dX0_node_33)
        · exact (zc_eV (C := zcn 24) G q1603 q1604 q1609 (Or.inl ⟨rfl, rfl⟩) q1613 md_X21_find (zc_rc G (zne tu4 z (by decide)) z (by decide) (by decide) rfl) rfl dX0_node_33)
        · exact (zc_eV (C := zcn 25) G q1603 q1604 q1612 (Or.inl ⟨rfl, rfl⟩) q1613 md_X21_find (zc_rc G (zne tu4 z (by decide)) z (by decide) (by decide) rfl) rfl dX0_node_33)
      refine zv_callR (as := [ar (fR u4 52 (aR u4 (fR u4 5 p) x1)), ai x2]) (st := []) G M en94 (S 155 _ rfl _ _ _ h (zoks_cons trivial (zoks_cons rx2 zoks_nil))) (Or.inl ⟨rfl, rfl⟩) (zc_hk q1613 q177) (by decide) (Nat.le_of_ble_eq_true rfl) (fun v10 u9 h => ?_) (fun _ _ h => h.elim)
      refine zc_wk G hp (fun hu9 tu9 => ?_)
      refine zv_astore G (by decide) rfl dX0_node_36 ?_
      refine zv_iload_n G rfl rfl dX0_node_38 ?_
      by_cases c43 : x3 = 0
      · have h := h.1 c43
        refine zv_tswI (tgt := 68) G dX0_node_39 0 rx3 (by omega) (by omega) rfl (by decide) ?_
        refine zv_aload G rfl dX0_node_68 ?_
        have kj35 : ∀ (v34 : Int) (u33 : CW), zr v34 → (
            (fun v w => Γ.Q (.inl (some (ai v))) w) v34 u33) → ZV Γ u33 73 [(4, ar v10), (0, ar p), (1, ai x1), (2, ai x2), (3, ai x3)] [ai v34] := by
          intro v34 u33 rv34 h
          refine zc_wk G hp (fun hu33 tu33 => ?_)
          exact zv_iret (ty := .int) rv34 G M rfl dX0_node_73 h
        have h : wpC p d (vm2 (tg u9 v10)) [ar v10] u9 _ := h
        by_cases c36 : tg u9 v10 = 19
        · have e : vm2 (tg u9 v10) = 156 := by rw [c36]; rfl
          rw [e] at h
          exact zv_callI (as := [ar v10]) (st := []) G M (zc_eV (C := zcn 19) G q1614 q1615 q1632 (Or.inl ⟨rfl, rfl⟩) q1636 md_X21_what (zc_rc G (zne tu9 c36 (by decide)) c36 (by decide) (by decide) rfl) rfl dX0_node_70) (S 156 _ rfl _ _ _ h (zoks_cons trivial zoks_nil)) (Or.inl ⟨rfl, rfl⟩) (zc_hk q1636 q177) (by decide) (Nat.le_of_ble_eq_true rfl) kj35 (fun _ _ h => h.elim)
        by_cases c37 : tg u9 v10 = 20
        · have e : vm2 (tg u9 v10) = 163 := by rw [c37]; rfl
          rw [e] at h
          exact zv_callI (as := [ar v10]) (st := []) G M (zc_eU (C := zcn 20) G q1614 q1616 (zc_declC G q1615 q1636) ⟨by decide, by decide⟩ q1617 q1618 md_X21_what (zc_rc G (zne tu9 c37 (by decide)) c37 (by decide) (by decide) rfl) rfl dX0_node_70) (S 163 _ rfl _ _ _ h (zoks_cons trivial zoks_nil)) (Or.inl ⟨rfl, rfl⟩) (zc_hk q1619 q179) (by decide) (Nat.le_of_ble_eq_true rfl) kj35 (fun _ _ h => h.elim)
        by_cases c38 : tg u9 v10 = 21
        · have e : vm2 (tg u9 v10) = 167 := by rw [c38]; rfl
          rw [e] at h
          exact zv_callI (as := [ar v10]) (st := []) G M (zc_eU (C := zcn 21) G q1614 q1616 (zc_declC G q1615 q1636) ⟨by decide, by decide⟩ q1620 q1621 md_X21_what (zc_rc G (zne tu9 c38 (by decide)) c38 (by decide) (by decide) rfl) rfl dX0_node_70) (S 167 _ rfl _ _ _ h (zoks_cons trivial zoks_nil)) (Or.inl ⟨rfl, rfl⟩) (zc_hk q1622 q180) (by decide) (Nat.le_of_ble_eq_true rfl) kj35 (fun _ _ h => h.elim)
        by_cases c39 : tg u9 v10 = 22
        · have e : vm2 (tg u9 v10) = 172 := by rw [c39]; rfl
          rw [e] at h
          exact zv_callI (as := [ar v10]) (st := []) G M (zc_eU (C := zcn 22) G q1614 q1616 (zc_declC G q1615 q1636) ⟨by decide, by decide⟩ q1623 q1624 md_X21_what (zc_rc G (zne tu9 c39 (by decide)) c39 (by decide) (by decide) rfl) rfl dX0_node_70) (S 172 _ rfl _ _ _ h (zoks_cons trivial zoks_nil)) (Or.inl ⟨rfl, rfl⟩) (zc_hk q1625 q182) (by decide) (Nat.le_of_ble_eq_true rfl) kj35 (fun _ _ h => h.elim)
        by_cases c40 : tg u9 v10 = 23
        · have e : vm2 (tg u9 v10) = 175 := by rw [c40]; rfl
          rw [e] at h
          exact zv_callI (as := [ar v10]) (st := []) G M (zc_eU (C := zcn 23) G q1614 q1616 (zc_declC G q1615 q1636) ⟨by decide, by decide⟩ q1629 q1630 md_X21_what (zc_rc G (zne tu9 c40 (by decide)) c40 (by decide) (by decide) rfl) rfl dX0_node_70) (S 175 _ rfl _ _ _ h (zoks_cons trivial zoks_nil)) (Or.inl ⟨rfl, rfl⟩) (zc_hk q1631 q183) (by decide) (Nat.le_of_ble_eq_true rfl) kj35 (fun _ _ h => h.elim)
        by_cases c41 : tg u9 v10 = 24
        · have e : vm2 (tg u9 v10) = 178 := by rw [c41]; rfl
          rw [e] at h
          exact zv_callI (as := [ar v10]) (st := []) G M (zc_eU (C := zcn 24) G q1614 q1616 (zc_declC G q1615 q1636) ⟨by decide, by decide⟩ q1626 q1627 md_X21_what (zc_rc G (zne tu9 c41 (by decide)) c41 (by decide) (by decide) rfl) rfl dX0_node_70) (S 178 _ rfl _ _ _ h (zoks_cons trivial zoks_nil)) (Or.inl ⟨rfl, rfl⟩) (zc_hk q1628 q184) (by decide) (Nat.le_of_ble_eq_true rfl) kj35 (fun _ _ h => h.elim)
        by_cases c42 : tg u9 v10 = 25
        · have e : vm2 (tg u9 v10) = 181 := by rw [c42]; rfl
          rw [e] at h
          exact zv_callI (as := [ar v10]) (st := []) G M (zc_eU (C := zcn 25) G q1614 q1616 (zc_declC G q1615 q1636) ⟨by decide, by decide⟩ q1633 q1634 md_X21_what (zc_rc G (zne tu9 c42 (by decide)) c42 (by decide) (by decide) rfl) rfl dX0_node_70) (S 181 _ rfl _ _ _ h (zoks_cons trivial zoks_nil)) (Or.inl ⟨rfl, rfl⟩) (zc_hk q1635 q185) (by decide) (Nat.le_of_ble_eq_true rfl) kj35 (fun _ _ h => h.elim)
        have e : vm2 (tg u9 v10) = 9999 := by unfold vm2; rw [if_neg c36, if_neg c37, if_neg c38, if_neg c39, if_neg c40, if_neg c41, if_neg c42]
        rw [e] at h
        exact (wpC_none h).elim
      by_cases c66 : x3 = 1
      · have h := h.2.1 c66
        refine zv_tswI (tgt := 74) G dX0_node_39 1 rx3 (by omega) (by omega) rfl (by decide) ?_
        refine zv_aload G rfl dX0_node_74 ?_
        have kj58 : ∀ (v45 : Nat) (u44 : CW), (
            (v45 = 0 →
              pC_X0_node_95 p (wpC p d) (fun v w => Γ.Q (.inl (some (ai v))) w) (-4) u44) ∧
            (¬ (v45 = 0) →
              (wpC p d) (vm3 (tg u44 v10)) [ar v10] u44 (zqR (fun v48 u47 =>
                (hF 56 (tg u47 v48) = true) ∧
                pC_X0_node_95 p (wpC p d) (fun v w => Γ.Q (.inl (some (ai v))) w) (fI u47 56 v48) u47) zno))) → ZV Γ u44 79 [(4, ar v10), (0, ar p), (1, ai x1), (2, ai x2), (3, ai x3)] [ar v45] := by
          intro v45 u44 h
          refine zc_wk G hp (fun hu44 tu44 => ?_)
          refine zv_ifnonnull (tgt := 87) G (by decide) dX0_node_79 (fun c46 => ?_) (fun c46 => ?_)
          · have h := h.2 c46
            refine zv_aload G rfl dX0_node_87 ?_
            have kj50 : ∀ (v48 : Nat) (u47 : CW), (
                (hF 56 (tg u47 v48) = true) ∧
                pC_X0_node_95 p (wpC p d) (fun v w => Γ.Q (.inl (some (ai v))) w) (fI u47 56 v48) u47) → ZV Γ u47 92 [(4, ar v10), (0, ar p), (1, ai x1), (2, ai x2), (3, ai x3)] [ar v48] := by
              intro v48 u47 h
              refine zc_wk G hp (fun hu47 tu47 => ?_)
              have o49 := h.1
              have h := h.2
              refine zc_get (f := 56) (v := ai (fI u47 56 v48)) G o49 rfl q805 (Or.inl rfl) (cV_I (by decide) (by decide)) dX0_node_92 ?_
              exact zv_pick [] rfl (cpC_X0_node_95 hp G M S hl hk (hu47.i 56 _ (by decide)) h)
            have h : wpC p d (vm3 (tg u44 v10)) [ar v10] u44 _ := h
            by_cases c51 : tg u44 v10 = 19
            · have e : vm3 (tg u44 v10) = 157 := by rw [c51]; rfl
              rw [e] at h
              exact zv_callR (as := [ar v10]) (st := []) G M (zc_eV (C := zcn 19) G q1637 q1638 q1647 (Or.inl ⟨rfl, rfl⟩) q1649 md_X21_rule (zc_rc G (zne tu44 c51 (by decide)) c51 (by decide) (by decide) rfl) rfl dX0_node_89) (S 157 _ rfl _ _ _ h (zoks_cons trivial zoks_nil)) (Or.inl ⟨rfl, rfl⟩) (zc_hk q1649 q177) (by decide) (Nat.le_of_ble_eq_true rfl) kj50 (fun _ _ h => h.elim)
            by_cases c52 : tg u44 v10 = 20
            · have e : vm3 (tg u44 v10) = 164 := by rw [c52]; rfl
              rw [e] at h
              exact zv_callR (as := [ar v10]) (st := []) G M (zc_eU (C := zcn 20) G q1637 q1639 (zc_declC G q1638 q1649) ⟨by decide, by decide⟩ q1640 q1641 md_X21_rule (zc_rc G (zne tu44 c52 (by decide)) c52 (by decide) (by decide) rfl) rfl dX0_node_89) (S 164 _ rfl _ _ _ h (zoks_cons trivial zoks_nil)) (Or.inl ⟨rfl, rfl⟩) (zc_hk q1642 q179) (by decide) (Nat.le_of_ble_eq_true rfl) kj50 (fun _ _ h => h.elim)
            by_cases c53 : tg u44 v10 = 21
            · have e : vm3 (tg u44 v10) = 164 := by rw [c53]; rfl
              rw [e] at h
              exact zv_callR (as := [ar v10]) (st := []) G M (zc_eU (C := zcn 21) G q1637 q1639 (zc_declC G q1638 q1649) ⟨by decide, by decide⟩ q1643 q1641 md_X21_rule (zc_rc G (zne tu44 c53 (by decide)) c53 (by decide) (by decide) rfl) rfl dX0_node_89) (S 164 _ rfl _ _ _ h (zoks_cons trivial zoks_nil)) (Or.inl ⟨rfl, rfl⟩) (zc_hk q1642 q179) (by decide) (Nat.le_of_ble_eq_true rfl) kj50 (fun _ _ h => h.elim)
            by_cases c54 : tg u44 v10 = 22
            · have e : vm3 (tg u44 v10) = 157 := by rw [c54]; rfl
              rw [e] at h
              exact zv_callR (as := [ar v10]) (st := []) G M (zc_eV (C := zcn 22) G q1637 q1638 q1644 (Or.inl ⟨rfl, rfl⟩) q1649 md_X21_rule (zc_rc G (zne tu44 c54 (by decide)) c54 (by decide) (by decide) rfl) rfl dX0_node_89) (S 157 _ rfl _ _ _ h (zoks_cons trivial zoks_nil)) (Or.inl ⟨rfl, rfl⟩) (zc_hk q1649 q177) (by decide) (Nat.le_of_ble_eq_true rfl) kj50 (fun _ _ h => h.elim)
            by_cases c55 : tg u44 v10 = 23
            · have e : vm3 (tg u44 v10) = 157 := by rw [c55]; rfl
              rw [e] at h
              exact zv_callR (as := [ar v10]) (st := []) G M (zc_eV (C := zcn 23) G q1637 q1638 q1646 (Or.inl ⟨rfl, rfl⟩) q1649 md_X21_rule (zc_rc G (zne tu44 c55 (by decide)) c55 (by decide) (by decide) rfl) rfl dX0_node_89) (S 157 _ rfl _ _ _ h (zoks_cons trivial zoks_nil)) (Or.inl ⟨rfl, rfl⟩) (zc_hk q1649 q177) (by decide) (Nat.le_of_ble_eq_true rfl) kj50 (fun _ _ h => h.elim)
            by_cases c56 : tg u44 v10 = 24
            · have e : vm3 (tg u44 v10) = 157 := by rw [c56]; rfl
              rw [e] at h
              exact zv_callR (as := [ar v10]) (st := []) G M (zc_eV (C := zcn 24) G q1637 q1638 q1645 (Or.inl ⟨rfl, rfl⟩) q1649 md_X21_rule (zc_rc G (zne tu44 c56 (by decide)) c56 (by decide) (by decide) rfl) rfl dX0_node_89) (S 157 _ rfl _ _ _ h (zoks_cons trivial zoks_nil)) (Or.inl ⟨rfl, rfl⟩) (zc_hk q1649 q177) (by decide) (Nat.le_of_ble_eq_true rfl) kj50 (fun _ _ h => h.elim)
            by_cases c57 : tg u44 v10 = 25
            · have e : vm3 (tg u44 v10) = 157 := by rw [c57]; rfl
              rw [e] at h
              exact zv_callR (as := [ar v10]) (st := []) G M (zc_eV (C := zcn 25) G q1637 q1638 q1648 (Or.inl ⟨rfl, rfl⟩) q1649 md_X21_rule (zc_rc G (zne tu44 c57 (by decide)) c57 (by decide) (by decide) rfl) rfl dX0_node_89) (S 157 _ rfl _ _ _ h (zoks_cons trivial zoks_nil)) (Or.inl ⟨rfl, rfl⟩) (zc_hk q1649 q177) (by decide) (Nat.le_of_ble_eq_true rfl) kj50 (fun _ _ h => h.elim)
            have e : vm3 (tg u44 v10) = 9999 := by unfold vm3; rw [if_neg c51, if_neg c52, if_neg c53, if_neg c54, if_neg c55, if_neg c56, if_neg c57]
            rw [e] at h
            exact (wpC_none h).elim
          · have h := h.1 c46
            refine zv_bipush (a := (-4)) G (by decide) dX0_node_82 ?_
            refine zv_goto (tgt := 95) G (by decide) dX0_node_84 ?_
            exact zv_pick [] rfl (cpC_X0_node_95 hp G M S hl hk (zr_k (-4) (by decide) (by decide)) h)
        have h : wpC p d (vm3 (tg u9 v10)) [ar v10] u9 _ := h
        by_cases c59 : tg u9 v10 = 19
        · have e : vm3 (tg u9 v10) = 157 := by rw [c59]; rfl
          rw [e] at h
          exact zv_callR (as := [ar v10]) (st := []) G M (zc_eV (C := zcn 19) G q1637 q1638 q1647 (Or.inl ⟨rfl, rfl⟩) q1649 md_X21_rule (zc_rc G (zne tu9 c59 (by decide)) c59 (by decide) (by decide) rfl) rfl dX0_node_76) (S 157 _ rfl _ _ _ h (zoks_cons trivial zoks_nil)) (Or.inl ⟨rfl, rfl⟩) (zc_hk q1649 q177) (by decide) (Nat.le_of_ble_eq_true rfl) kj58 (fun _ _ h => h.elim)
        by_cases c60 : tg u9 v10 = 20
        · have e : vm3 (tg u9 v10) = 164 := by rw [c60]; rfl
          rw [e] at h
          exact zv_callR (as := [ar v10]) (st := []) G M (zc_eU (C := zcn 20) G q1637 q1639 (zc_declC G q1638 q1649) ⟨by decide, by decide⟩ q1640 q1641 md_X21_rule (zc_rc G (zne tu9 c60 (by decide)) c60 (by decide) (by decide) rfl) rfl dX0_node_76) (S 164 _ rfl _ _ _ h (zoks_cons trivial zoks_nil)) (Or.inl ⟨rfl, rfl⟩) (zc_hk q1642 q179) (by decide) (Nat.le_of_ble_eq_true rfl) kj58 (fun _ _ h => h.elim)
        by_cases c61 : tg u9 v10 = 21
        · have e : vm3 (tg u9 v10) = 164 := by rw [c61]; rfl
          rw [e] at h
          exact zv_callR (as := [ar v10]) (st := []) G M (zc_eU (C := zcn 21) G q1637 q1639 (zc_declC G q1638 q1649) ⟨by decide, by decide⟩ q1643 q1641 md_X21_rule (zc_rc G (zne tu9 c61 (by decide)) c61 (by decide) (by decide) rfl) rfl dX0_node_76) (S 164 _ rfl _ _ _ h (zoks_cons trivial zoks_nil)) (Or.inl ⟨rfl, rfl⟩) (zc_hk q1642 q179) (by decide) (Nat.le_of_ble_eq_true rfl) kj58 (fun _ _ h => h.elim)
        by_cases c62 : tg u9 v10 = 22
        · have e : vm3 (tg u9 v10) = 157 := by rw [c62]; rfl
          rw [e] at h
          exact zv_callR (as := [ar v10]) (st := []) G M (zc_eV (C := zcn 22) G q1637 q1638 q1644 (Or.inl ⟨rfl, rfl⟩) q1649 md_X21_rule (zc_rc G (zne tu9 c62 (by decide)) c62 (by decide) (by decide) rfl) rfl dX0_node_76) (S 157 _ rfl _ _ _ h (zoks_cons trivial zoks_nil)) (Or.inl ⟨rfl, rfl⟩) (zc_hk q1649 q177) (by decide) (Nat.le_of_ble_eq_true rfl) kj58 (fun _ _ h => h.elim)
        by_cases c63 : tg u9 v10 = 23
        · have e : vm3 (tg u9 v10) = 157 := by rw [c63]; rfl
          rw [e] at h
          exact zv_callR (as := [ar v10]) (st := []) G M (zc_eV (C := zcn 23) G q1637 q1638 q1646 (Or.inl ⟨rfl, rfl⟩) q1649 md_X21_rule (zc_rc G (zne tu9 c63 (by decide)) c63 (by decide) (by decide) rfl) rfl dX0_node_76) (S 157 _ rfl _ _ _ h (zoks_cons trivial zoks_nil)) (Or.inl ⟨rfl, rfl⟩) (zc_hk q1649 q177) (by decide) (Nat.le_of_ble_eq_true rfl) kj58 (fun _ _ h => h.elim)
        by_cases c64 : tg u9 v10 = 24
        · have e : vm3 (tg u9 v10) = 157 := by rw [c64]; rfl
          rw [e] at h
          exact zv_callR (as := [ar v10]) (st := []) G M (zc_eV (C := zcn 24) G q1637 q1638 q1645 (Or.inl ⟨rfl, rfl⟩) q1649 md_X21_rule (zc_rc G (zne tu9 c64 (by decide)) c64 (by decide) (by decide) rfl) rfl dX0_node_76) (S 157 _ rfl _ _ _ h (zoks_cons trivial zoks_nil)) (Or.inl ⟨rfl, rfl⟩) (zc_hk q1649 q177) (by decide) (Nat.le_of_ble_eq_true rfl) kj58 (fun _ _ h => h.elim)
        by_cases c65 : tg u9 v10 = 25
        · have e : vm3 (tg u9 v10) = 157 := by rw [c65]; rfl
          rw [e] at h
          exact zv_callR (as := [ar v10]) (st := []) G M (zc_eV (C := zcn 25) G q1637 q1638 q1648 (Or.inl ⟨rfl, rfl⟩) q1649 md_X21_rule (zc_rc G (zne tu9 c65 (by decide)) c65 (by decide) (by decide) rfl) rfl dX0_node_76) (S 157 _ rfl _ _ _ h (zoks_cons trivial zoks_nil)) (Or.inl ⟨rfl, rfl⟩) (zc_hk q1649 q177) (by decide) (Nat.le_of_ble_eq_true rfl) kj58 (fun _ _ h => h.elim)
        have e : vm3 (tg u9 v10) = 9999 := by unfold vm3; rw [if_neg c59, if_neg c60, if_neg c61, if_neg c62, if_neg c63, if_neg c64, if_neg c65]
        rw [e] at h
        exact (wpC_none h).elim
      by_cases c69 : x3 = 2
      · have h := h.2.2.1 c69
        refine zv_tswI (tgt := 96) G dX0_node_39 2 rx3 (by omega) (by omega) rfl (by decide) ?_
        refine zv_aload G rfl dX0_node_96 ?_
        have o67 := h.1
        have h := h.2
        refine zc_get (f := 107) (v := ar (fR u9 107 v10)) G o67 rfl q1361 (Or.inl rfl) (cV_R rfl) dX0_node_98 ?_
        have o68 := h.1
        have h := h.2
        refine zc_alen G o68 dX0_node_101 ?_
        exact zv_iret (ty := .int) (zc_lnr hu9 _) G M rfl dX0_node_102 h
      by_cases c92 : x3 = 3
      · have h := h.2.2.2.1 c92
        refine zv_tswI (tgt := 103) G dX0_node_39 3 rx3 (by omega) (by omega) rfl (by decide) ?_
        refine zv_aload G rfl dX0_node_103 ?_
        have kj84 : ∀ (v71 : Nat) (u70 : CW), (
            (v71 = 0 →
              pC_X0_node_124 p (wpC p d) (fun v w => Γ.Q (.inl (some (ai v))) w) (-4) u70) ∧
            (¬ (v71 = 0) →
              (wpC p d) (vm1 (tg u70 v10)) [ar v10] u70 (zqR (fun v74 u73 =>
                (hF 90 (tg u73 v74) = true) ∧
                pC_X0_node_124 p (wpC p d) (fun v w => Γ.Q (.inl (some (ai v))) w) (fI u73 90 v74) u73) zno))) → ZV Γ u70 108 [(4, ar v10), (0, ar p), (1, ai x1), (2, ai x2), (3, ai x3)] [ar v71] := by
          intro v71 u70 h
          refine zc_wk G hp (fun hu70 tu70 => ?_)
          refine zv_ifnonnull (tgt := 116) G (by decide) dX0_node_108 (fun c72 => ?_) (fun c72 => ?_)
          · have h := h.2 c72
            refine zv_aload G rfl dX0_node_116 ?_
            have kj76 : ∀ (v74 : Nat) (u73 : CW), (
                (hF 90 (tg u73 v74) = true) ∧
                pC_X0_node_124 p (wpC p d) (fun v w => Γ.Q (.inl (some (ai v))) w) (fI u73 90 v74) u73) → ZV Γ u73 121 [(4, ar v10), (0, ar p), (1, ai x1), (2, ai x2), (3, ai x3)] [ar v74] := by
              intro v74 u73 h
              refine zc_wk G hp (fun hu73 tu73 => ?_)
              have o75 := h.1
              have h := h.2
              refine zc_get (f := 90) (v := ai (fI u73 90 v74)) G o75 rfl q1151 (Or.inl rfl) (cV_I (by decide) (by decide)) dX0_node_121 ?_
              exact zv_pick [] rfl (cpC_X0_node_124 hp G M S hl hk (hu73.i 90 _ (by decide)) h)
            have h : wpC p d (vm1 (tg u70 v10)) [ar v10] u70 _ := h
            by_cases c77 : tg u70 v10 = 19
            · have e : vm1 (tg u70 v10) = 158 := by rw [c77]; rfl
              rw [e] at h
              exact zv_callR (as := [ar v10]) (st := []) G M (zc_eV (C := zcn 19) G q1650 q1651 q1660 (Or.inl ⟨rfl, rfl⟩) q1662 md_X21_place (zc_rc G (zne tu70 c77 (by decide)) c77 (by decide) (by decide) rfl) rfl dX0_node_118) (S 158 _ rfl _ _ _ h (zoks_cons trivial zoks_nil)) (Or.inl ⟨rfl, rfl⟩) (zc_hk q1662 q177) (by decide) (Nat.le_of_ble_eq_true rfl) kj76 (fun _ _ h => h.elim)
            by_cases c78 : tg u70 v10 = 20
            · have e : vm1 (tg u70 v10) = 158 := by rw [c78]; rfl
              rw [e] at h
              exact zv_callR (as := [ar v10]) (st := []) G M (zc_eV (C := zcn 20) G q1650 q1651 q1653 (Or.inl ⟨rfl, rfl⟩) q1662 md_X21_place (zc_rc G (zne tu70 c78 (by decide)) c78 (by decide) (by decide) rfl) rfl dX0_node_118) (S 158 _ rfl _ _ _ h (zoks_cons trivial zoks_nil)) (Or.inl ⟨rfl, rfl⟩) (zc_hk q1662 q177) (by decide) (Nat.le_of_ble_eq_true rfl) kj76 (fun _ _ h => h.elim)
            by_cases c79 : tg u70 v10 = 21
            · have e : vm1 (tg u70 v10) = 158 := by rw [c79]; rfl
              rw [e] at h
              exact zv_callR (as := [ar v10]) (st := []) G M (zc_eV (C := zcn 21) G q1650 q1651 q1654 (Or.inl ⟨rfl, rfl⟩) q1662 md_X21_place (zc_rc G (zne tu70 c79 (by decide)) c79 (by decide) (by decide) rfl) rfl dX0_node_118) (S 158 _ rfl _ _ _ h (zoks_cons trivial zoks_nil)) (Or.inl ⟨rfl, rfl⟩) (zc_hk q1662 q177) (by decide) (Nat.le_of_ble_eq_true rfl) kj76 (fun _ _ h => h.elim)
            by_cases c80 : tg u70 v10 = 22
            · have e : vm1 (tg u70 v10) = 170 := by rw [c80]; rfl
              rw [e] at h
              exact zv_callR (as := [ar v10]) (st := []) G M (zc_eU (C := zcn 22) G q1650 q1652 (zc_declC G q1651 q1662) ⟨by decide, by decide⟩ q1655 q1656 md_X21_place (zc_rc G (zne tu70 c80 (by decide)) c80 (by decide) (by decide) rfl) rfl dX0_node_118) (S 170 _ rfl _ _ _ h (zoks_cons trivial zoks_nil)) (Or.inl ⟨rfl, rfl⟩) (zc_hk q1657 q181) (by decide) (Nat.le_of_ble_eq_true rfl) kj76 (fun _ _ h => h.elim)
            by_cases c81 : tg u70 v10 = 23
            · have e : vm1 (tg u70 v10) = 170 := by rw [c81]; rfl
              rw [e] at h
              exact zv_callR (as := [ar v10]) (st := []) G M (zc_eU (C := zcn 23) G q1650 q1652 (zc_declC G q1651 q1662) ⟨by decide, by decide⟩ q1659 q1656 md_X21_place (zc_rc G (zne tu70 c81 (by decide)) c81 (by decide) (by decide) rfl) rfl dX0_node_118) (S 170 _ rfl _ _ _ h (zoks_cons trivial zoks_nil)) (Or.inl ⟨rfl, rfl⟩) (zc_hk q1657 q181) (by decide) (Nat.le_of_ble_eq_true rfl) kj76 (fun _ _ h => h.elim)
            by_cases c82 : tg u70 v10 = 24
            · have e : vm1 (tg u70 v10) = 170 := by rw [c82]; rfl
              rw [e] at h
              exact zv_callR (as := [ar v10]) (st := []) G M (zc_eU (C := zcn 24) G q1650 q1652 (zc_declC G q1651 q1662) ⟨by decide, by decide⟩ q1658 q1656 md_X21_place (zc_rc G (zne tu70 c82 (by decide)) c82 (by decide) (by decide) rfl) rfl dX0_node_118) (S 170 _ rfl _ _ _ h (zoks_cons trivial zoks_nil)) (Or.inl ⟨rfl, rfl⟩) (zc_hk q1657 q181) (by decide) (Nat.le_of_ble_eq_true rfl) kj76 (fun _ _ h => h.elim)
            by_cases c83 : tg u70 v10 = 25
            · have e : vm1 (tg u70 v10) = 170 := by rw [c83]; rfl
              rw [e] at h
              exact zv_callR (as := [ar v10]) (st := []) G M (zc_eU (C := zcn 25) G q1650 q1652 (zc_declC G q1651 q1662) ⟨by decide, by decide⟩ q1661 q1656 md_X21_place (zc_rc G (zne tu70 c83 (by decide)) c83 (by decide) (by decide) rfl) rfl dX0_node_118) (S 170 _ rfl _ _ _ h (zoks_cons trivial zoks_nil)) (Or.inl ⟨rfl, rfl⟩) (zc_hk q1657 q181) (by decide) (Nat.le_of_ble_eq_true rfl) kj76 (fun _ _ h => h.elim)
            have e : vm1 (tg u70 v10) = 9999 := by unfold vm1; rw [if_neg c77, if_neg c78, if_neg c79, if_neg c80, if_neg c81, if_neg c82, if_neg c83]
            rw [e] at h
            exact (wpC_none h).elim
          · have h := h.1 c72
            refine zv_bipush (a := (-4)) G (by decide) dX0_node_111 ?_
            refine zv_goto (tgt := 124) G (by decide) dX0_node_113 ?_
            exact zv_pick [] rfl (cpC_X0_node_124 hp G M S hl hk (zr_k (-4) (by decide) (by decide)) h)
        have h : wpC p d (vm1 (tg u9 v10)) [ar v10] u9 _ := h
        by_cases c85 : tg u9 v10 = 19
        · have e : vm1 (tg u9 v10) = 158 := by rw [c85]; rfl
          rw [e] at h
          exact zv_callR (as := [ar v10]) (st := []) G M (zc_eV (C := zcn 19) G q1650 q1651 q1660 (Or.inl ⟨rfl, rfl⟩) q1662 md_X21_place (zc_rc G (zne tu9 c85 (by decide)) c85 (by decide) (by decide) rfl) rfl dX0_node_105) (S 158 _ rfl _ _ _ h (zoks_cons trivial zoks_nil)) (Or.inl ⟨rfl, rfl⟩) (zc_hk q1662 q177) (by decide) (Nat.le_of_ble_eq_true rfl) kj84 (fun _ _ h => h.elim)
        by_cases c86 : tg u9 v10 = 20
        · have e : vm1 (tg u9 v10) = 158 := by rw [c86]; rfl
          rw [e] at h
          exact zv_callR (as := [ar v10]) (st := []) G M (zc_eV (C := zcn 20) G q1650 q1651 q1653 (Or.inl ⟨rfl, rfl⟩) q1662 md_X21_place (zc_rc G (zne tu9 c86 (by decide)) c86 (by decide) (by decide) rfl) rfl dX0_node_105) (S 158 _ rfl _ _ _ h (zoks_cons trivial zoks_nil)) (Or.inl ⟨rfl, rfl⟩) (zc_hk q1662 q177) (by decide) (Nat.le_of_ble_eq_true rfl) kj84 (fun _ _ h => h.elim)
        by_cases c87 : tg u9 v10 = 21
        · have e : vm1 (tg u9 v10) = 158 := by rw [c87]; rfl
          rw [e] at h
          exact zv_callR (as := [ar v10]) (st := []) G M (zc_eV (C := zcn 21) G q1650 q1651 q1654 (Or.inl ⟨rfl, rfl⟩) q1662 md_X21_place (zc_rc G (zne tu9 c87 (by decide)) c87 (by decide) (by decide) rfl) rfl dX0_node_105) (S 158 _ rfl _ _ _ h (zoks_cons trivial zoks_nil)) (Or.inl ⟨rfl, rfl⟩) (zc_hk q1662 q177) (by decide) (Nat.le_of_ble_eq_true rfl) kj84 (fun _ _ h => h.elim)
        by_cases c88 : tg u9 v10 = 22
        · have e : vm1 (tg u9 v10) = 170 := by rw [c88]; rfl
          rw [e] at h
          exact zv_callR (as := [ar v10]) (st := []) G M (zc_eU (C := zcn 22) G q1650 q1652 (zc_declC G q1651 q1662) ⟨by decide, by decide⟩ q1655 q1656 md_X21_place (zc_rc G (zne tu9 c88 (by decide)) c88 (by decide) (by decide) rfl) rfl dX0_node_105) (S 170 _ rfl _ _ _ h (zoks_cons trivial zoks_nil)) (Or.inl ⟨rfl, rfl⟩) (zc_hk q1657 q181) (by decide) (Nat.le_of_ble_eq_true rfl) kj84 (fun _ _ h => h.elim)
        by_cases c89 : tg u9 v10 = 23
        · have e : vm1 (tg u9 v10) = 170 := by rw [c89]; rfl
          rw [e] at h
          exact zv_callR (as := [ar v10]) (st := []) G M (zc_eU (C := zcn 23) G q1650 q1652 (zc_declC G q1651 q1662) ⟨by decide, by decide⟩ q1659 q1656 md_X21_place (zc_rc G (zne tu9 c89 (by decide)) c89 (by decide) (by decide) rfl) rfl dX0_node_105) (S 170 _ rfl _ _ _ h (zoks_cons trivial zoks_nil)) (Or.inl ⟨rfl, rfl⟩) (zc_hk q1657 q181) (by decide) (Nat.le_of_ble_eq_true rfl) kj84 (fun _ _ h => h.elim)
        by_cases c90 : tg u9 v10 = 24
        · have e : vm1 (tg u9 v10) = 170 := by rw [c90]; rfl
          rw [e] at h
          exact zv_callR (as := [ar v10]) (st := []) G M (zc_eU (C := zcn 24) G q1650 q1652 (zc_declC G q1651 q1662) ⟨by decide, by decide⟩ q1658 q1656 md_X21_place (zc_rc G (zne tu9 c90 (by decide)) c90 (by decide) (by decide) rfl) rfl dX0_node_105) (S 170 _ rfl _ _ _ h (zoks_cons trivial zoks_nil)) (Or.inl ⟨rfl, rfl⟩) (zc_hk q1657 q181) (by decide) (Nat.le_of_ble_eq_true rfl) kj84 (fun _ _ h => h.elim)
        by_cases c91 : tg u9 v10 = 25
        · have e : vm1 (tg u9 v10) = 170 := by rw [c91]; rfl
          rw [e] at h
          exact zv_callR (as := [ar v10]) (st := []) G M (zc_eU (C := zcn 25) G q1650 q1652 (zc_declC G q1651 q1662) ⟨by decide, by decide⟩ q1661 q1656 md_X21_place (zc_rc G (zne tu9 c91 (by decide)) c91 (by decide) (by decide) rfl) rfl dX0_node_105) (S 170 _ rfl _ _ _ h (zoks_cons trivial zoks_nil)) (Or.inl ⟨rfl, rfl⟩) (zc_hk q1657 q181) (by decide) (Nat.le_of_ble_eq_true rfl) kj84 (fun _ _ h => h.elim)
        have e : vm1 (tg u9 v10) = 9999 := by unfold vm1; rw [if_neg c85, if_neg c86, if_neg c87, if_neg c88, if_neg c89, if_neg c90, if_neg c91]
        rw [e] at h
        exact (wpC_none h).elim
      have h := h.2.2.2.2 c43 c66 c69 c92
      refine zv_tswO (tgt := 125) G dX0_node_39 rx3 (by omega) (by decide) ?_
      refine zv_aload G rfl dX0_node_125 ?_
      have kj25 : ∀ (v12 : Nat) (u11 : CW), (
          (v12 = 0 →
            pC_X0_node_146 p (wpC p d) (fun v w => Γ.Q (.inl (some (ai v))) w) (-4) u11) ∧
          (¬ (v12 = 0) →
            (wpC p d) (vm1 (tg u11 v10)) [ar v10] u11 (zqR (fun v15 u14 =>
              (hF 87 (tg u14 v15) = true) ∧
              pC_X0_node_146 p (wpC p d) (fun v w => Γ.Q (.inl (some (ai v))) w) (fI u14 87 v15) u14) zno))) → ZV Γ u11 130 [(4, ar v10), (0, ar p), (1, ai x1), (2, ai x2), (3, ai x3)] [ar v12] := by
        intro v12 u11 h
        refine zc_wk G hp (fun hu11 tu11 => ?_)
        refine zv_ifnonnull (tgt := 138) G (by decide) dX0_node_130 (fun c13 => ?_) (fun c13 => ?_)
        · have h := h.2 c13
          refine zv_aload G rfl dX0_node_138 ?_
          have kj17 : ∀ (v15 : Nat) (u14 : CW), (
              (hF 87 (tg u14 v15) = true) ∧
              pC_X0_node_146 p (wpC p d) (fun v w => Γ.Q (.inl (some (ai v))) w) (fI u14 87 v15) u14) → ZV Γ u14 143 [(4, ar v10), (0, ar p), (1, ai x1), (2, ai x2), (3, ai x3)] [ar v15] := by
            intro v15 u14 h
            refine zc_wk G hp (fun hu14 tu14 => ?_)
            have o16 := h.1
            have h := h.2
            refine zc_get (f := 87) (v := ai (fI u14 87 v15)) G o16 rfl q1140 (Or.inl rfl) (cV_I (by decide) (by decide)) dX0_node_143 ?_
            exact zv_pick [] rfl (cpC_X0_node_146 hp G M S hl hk (hu14.i 87 _ (by decide)) h)
          have h : wpC p d (vm1 (tg u11 v10)) [ar v10] u11 _ := h
          by_cases c18 : tg u11 v10 = 19
          · have e : vm1 (tg u11 v10) = 158 := by rw [c18]; rfl
            rw [e] at h
            exact zv_callR (as := [ar v10]) (st := []) G M (zc_eV (C := zcn 19) G q1650 q1651 q1660 (Or.inl ⟨rfl, rfl⟩) q1662 md_X21_place (zc_rc G (zne tu11 c18 (by decide)) c18 (by decide) (by decide) rfl) rfl dX0_node_140) (S 158 _ rfl _ _ _ h (zoks_cons trivial zoks_nil)) (Or.inl ⟨rfl, rfl⟩) (zc_hk q1662 q177) (by decide) (Nat.le_of_ble_eq_true rfl) kj17 (fun _ _ h => h.elim)
          by_cases c19 : tg u11 v10 = 20
          · have e : vm1 (tg u11 v10) = 158 := by rw [c19]; rfl
            rw [e] at h
            exact zv_callR (as := [ar v10]) (st := []) G M (zc_eV (C := zcn 20) G q1650 q1651 q1653 (Or.inl ⟨rfl, rfl⟩) q1662 md_X21_place (zc_rc G (zne tu11 c19 (by decide)) c19 (by decide) (by decide) rfl) rfl dX0_node_140) (S 158 _ rfl _ _ _ h (zoks_cons trivial zoks_nil)) (Or.inl ⟨rfl, rfl⟩) (zc_hk q1662 q177) (by decide) (Nat.le_of_ble_eq_true rfl) kj17 (fun _ _ h => h.elim)
          by_cases c20 : tg u11 v10 = 21
          · have e : vm1 (tg u11 v10) = 158 := by rw [c20]; rfl
            rw [e] at h
            exact zv_callR (as := [ar v10]) (st := []) G M (zc_eV (C := zcn 21) G q1650 q1651 q1654 (Or.inl ⟨rfl, rfl⟩) q1662 md_X21_place (zc_rc G (zne tu11 c20 (by decide)) c20 (by decide) (by decide) rfl) rfl dX0_node_140) (S 158 _ rfl _ _ _ h (zoks_cons trivial zoks_nil)) (Or.inl ⟨rfl, rfl⟩) (zc_hk q1662 q177) (by decide) (Nat.le_of_ble_eq_true rfl) kj17 (fun _ _ h => h.elim)
          by_cases c21 : tg u11 v10 = 22
          · have e : vm1 (tg u11 v10) = 170 := by rw [c21]; rfl
            rw [e] at h
            exact zv_callR (as := [ar v10]) (st := []) G M (zc_eU (C := zcn 22) G q1650 q1652 (zc_declC G q1651 q1662) ⟨by decide, by decide⟩ q1655 q1656 md_X21_place (zc_rc G (zne tu11 c21 (by decide)) c21 (by decide) (by decide) rfl) rfl dX0_node_140) (S 170 _ rfl _ _ _ h (zoks_cons trivial zoks_nil)) (Or.inl ⟨rfl, rfl⟩) (zc_hk q1657 q181) (by decide) (Nat.le_of_ble_eq_true rfl) kj17 (fun _ _ h => h.elim)
          by_cases c22 : tg u11 v10 = 23
          · have e : vm1 (tg u11 v10) = 170 := by rw [c22]; rfl
            rw [e] at h
            exact zv_callR (as := [ar v10]) (st := []) G M (zc_eU (C := zcn 23) G q1650 q1652 (zc_declC G q1651 q1662) ⟨by decide, by decide⟩ q1659 q1656 md_X21_place (zc_rc G (zne tu11 c22 (by decide)) c22 (by decide) (by decide) rfl) rfl dX0_node_140) (S 170 _ rfl _ _ _ h (zoks_cons trivial zoks_nil)) (Or.inl ⟨rfl, rfl⟩) (zc_hk q1657 q181) (by decide) (Nat.le_of_ble_eq_true rfl) kj17 (fun _ _ h => h.elim)
          by_cases c23 : tg u11 v10 = 24
          · have e : vm1 (tg u11 v10) = 170 := by rw [c23]; rfl
            rw [e] at h
            exact zv_callR (as := [ar v10]) (st := []) G M (zc_eU (C := zcn 24) G q1650 q1652 (zc_declC G q1651 q1662) ⟨by decide, by decide⟩ q1658 q1656 md_X21_place (zc_rc G (zne tu11 c23 (by decide)) c23 (by decide) (by decide) rfl) rfl dX0_node_140) (S 170 _ rfl _ _ _ h (zoks_cons trivial zoks_nil)) (Or.inl ⟨rfl, rfl⟩) (zc_hk q1657 q181) (by decide) (Nat.le_of_ble_eq_true rfl) kj17 (fun _ _ h => h.elim)
          by_cases c24 : tg u11 v10 = 25
          · have e : vm1 (tg u11 v10) = 170 := by rw [c24]; rfl
            rw [e] at h
            exact zv_callR (as := [ar v10]) (st := []) G M (zc_eU (C := zcn 25) G q1650 q1652 (zc_declC G q1651 q1662) ⟨by decide, by decide⟩ q1661 q1656 md_X21_place (zc_rc G (zne tu11 c24 (by decide)) c24 (by decide) (by decide) rfl) rfl dX0_node_140) (S 170 _ rfl _ _ _ h (zoks_cons trivial zoks_nil)) (Or.inl ⟨rfl, rfl⟩) (zc_hk q1657 q181) (by decide) (Nat.le_of_ble_eq_true rfl) kj17 (fun _ _ h => h.elim)
          have e : vm1 (tg u11 v10) = 9999 := by unfold vm1; rw [if_neg c18, if_neg c19, if_neg c20, if_neg c21, if_neg c22, if_neg c23, if_neg c24]
          rw [e] at h
          exact (wpC_none h).elim
        · have h := h.1 c13
          refine zv_bipush (a := (-4)) G (by decide) dX0_node_133 ?_
          refine zv_goto (tgt := 146) G (by decide) dX0_node_135 ?_
          exact zv_pick [] rfl (cpC_X0_node_146 hp G M S hl hk (zr_k (-4) (by decide) (by decide)) h)
      have h : wpC p d (vm1 (tg u9 v10)) [ar v10] u9 _ := h
      by_cases c26 : tg u9 v10 = 19
      · have e : vm1 (tg u9 v10) = 158 := by rw [c26]; rfl
        rw [e] at h
        exact zv_callR (as := [ar v10]) (st := []) G M (zc_eV (C := zcn 19) G q1650 q1651 q1660 (Or.inl ⟨rfl, rfl⟩) q1662 md_X21_place (zc_rc G (zne tu9 c26 (by decide)) c26 (by decide) (by decide) rfl) rfl dX0_node_127) (S 158 _ rfl _ _ _ h (zoks_cons trivial zoks_nil)) (Or.inl ⟨rfl, rfl⟩) (zc_hk q1662 q177) (by decide) (Nat.le_of_ble_eq_true rfl) kj25 (fun _ _ h => h.elim)
      by_cases c27 : tg u9 v10 = 20
      · have e : vm1 (tg u9 v10) = 158 := by rw [c27]; rfl
        rw [e] at h
        exact zv_callR (as := [ar v10]) (st := []) G M (zc_eV (C := zcn 20) G q1650 q1651 q1653 (Or.inl ⟨rfl, rfl⟩) q1662 md_X21_place (zc_rc G (zne tu9 c27 (by decide)) c27 (by decide) (by decide) rfl) rfl dX0_node_127) (S 158 _ rfl _ _ _ h (zoks_cons trivial zoks_nil)) (Or.inl ⟨rfl, rfl⟩) (zc_hk q1662 q177) (by decide) (Nat.le_of_ble_eq_true rfl) kj25 (fun _ _ h => h.elim)
      by_cases c28 : tg u9 v10 = 21
      · have e : vm1 (tg u9 v10) = 158 := by rw [c28]; rfl
        rw [e] at h
        exact zv_callR (as := [ar v10]) (st := []) G M (zc_eV (C := zcn 21) G q1650 q1651 q1654 (Or.inl ⟨rfl, rfl⟩) q1662 md_X21_place (zc_rc G (zne tu9 c28 (by decide)) c28 (by decide) (by decide) rfl) rfl dX0_node_127) (S 158 _ rfl _ _ _ h (zoks_cons trivial zoks_nil)) (Or.inl ⟨rfl, rfl⟩) (zc_hk q1662 q177) (by decide) (Nat.le_of_ble_eq_true rfl) kj25 (fun _ _ h => h.elim)
      by_cases c29 : tg u9 v10 = 22
      · have e : vm1 (tg u9 v10) = 170 := by rw [c29]; rfl
        rw [e] at h
        exact zv_callR (as := [ar v10]) (st := []) G M (zc_eU (C := zcn 22) G q1650 q1652 (zc_declC G q1651 q1662) ⟨by decide, by decide⟩ q1655 q1656 md_X21_place (zc_rc G (zne tu9 c29 (by decide)) c29 (by decide) (by decide) rfl) rfl dX0_node_127) (S 170 _ rfl _ _ _ h (zoks_cons trivial zoks_nil)) (Or.inl ⟨rfl, rfl⟩) (zc_hk q1657 q181) (by decide) (Nat.le_of_ble_eq_true rfl) kj25 (fun _ _ h => h.elim)
      by_cases c30 : tg u9 v10 = 23
      · have e : vm1 (tg u9 v10) = 170 := by rw [c30]; rfl
        rw [e] at h
        exact zv_callR (as := [ar v10]) (st := []) G M (zc_eU (C := zcn 23) G q1650 q1652 (zc_declC G q1651 q1662) ⟨by decide, by decide⟩ q1659 q1656 md_X21_place (zc_rc G (zne tu9 c30 (by decide)) c30 (by decide) (by decide) rfl) rfl dX0_node_127) (S 170 _ rfl _ _ _ h (zoks_cons trivial zoks_nil)) (Or.inl ⟨rfl, rfl⟩) (zc_hk q1657 q181) (by decide) (Nat.le_of_ble_eq_true rfl) kj25 (fun _ _ h => h.elim)
      by_cases c31 : tg u9 v10 = 24
      · have e : vm1 (tg u9 v10) = 170 := by rw [c31]; rfl
        rw [e] at h
        exact zv_callR (as := [ar v10]) (st := []) G M (zc_eU (C := zcn 24) G q1650 q1652 (zc_declC G q1651 q1662) ⟨by decide, by decide⟩ q1658 q1656 md_X21_place (zc_rc G (zne tu9 c31 (by decide)) c31 (by decide) (by decide) rfl) rfl dX0_node_127) (S 170 _ rfl _ _ _ h (zoks_cons trivial zoks_nil)) (Or.inl ⟨rfl, rfl⟩) (zc_hk q1657 q181) (by decide) (Nat.le_of_ble_eq_true rfl) kj25 (fun _ _ h => h.elim)
      by_cases c32 : tg u9 v10 = 25
      · have e : vm1 (tg u9 v10) = 170 := by rw [c32]; rfl
        rw [e] at h
        exact zv_callR (as := [ar v10]) (st := []) G M (zc_eU (C := zcn 25) G q1650 q1652 (zc_declC G q1651 q1662) ⟨by decide, by decide⟩ q1661 q1656 md_X21_place (zc_rc G (zne tu9 c32 (by decide)) c32 (by decide) (by decide) rfl) rfl dX0_node_127) (S 170 _ rfl _ _ _ h (zoks_cons trivial zoks_nil)) (Or.inl ⟨rfl, rfl⟩) (zc_hk q1657 q181) (by decide) (Nat.le_of_ble_eq_true rfl) kj25 (fun _ _ h => h.elim)
      have e : vm1 (tg u9 v10) = 9999 := by unfold vm1; rw [if_neg c26, if_neg c27, if_neg c28, if_neg c29, if_neg c30, if_neg c31, if_neg c32]
      rw [e] at h
      exact (wpC_none h).elim
    · have h := h.1 c6
      exact zv_pick [] rfl (cpC_X0_node_21 hp G M S hl hk h)
set_option maxHeartbeats 4000000 in
set_option maxRecDepth 100000 in
theorem cpC_X0_isNode_37 {Γ : ZG CW} {D : CD} {d p : Nat} (hp : D.K.1 = p) (G : ZOk Γ cX0_isNode RX0 3 (KnC D) (ZC D)) (M : ZRm Γ (d + 1) D.lim (Option.some Jvm.ClassFile.FieldType.boolean) "isNode" []) (S : SdC d D p Γ.l) (hl : Γ.l.stackTraces = false) (hk : 0 ≤ d) {s0 : Int} {w : CW} (rs0 : zr s0) (h : pC_X0_isNode_37 p (wpC p d) (fun v w => Γ.Q (.inl (some (ai v))) w) s0 w) : ZV Γ w 37 [] [ai s0] := by
  refine zc_wk G hp (fun hw tw => ?_)
  exact zv_iret (ty := .boolean) rs0 G M (zn_Z h.1) dX0_isNode_37 h.2
set_option maxHeartbeats 4000000 in
set_option maxRecDepth 100000 in
theorem cpC_X0_isNode_36 {Γ : ZG CW} {D : CD} {d p : Nat} (hp : D.K.1 = p) (G : ZOk Γ cX0_isNode RX0 3 (KnC D) (ZC D)) (M : ZRm Γ (d + 1) D.lim (Option.some Jvm.ClassFile.FieldType.boolean) "isNode" []) (S : SdC d D p Γ.l) (hl : Γ.l.stackTraces = false) (hk : 0 ≤ d) {w : CW} (h : pC_X0_isNode_36 p (wpC p d) (fun v w => Γ.Q (.inl (some (ai v))) w) w) : ZV Γ w 36 [] [] := by
  refine zc_wk G hp (fun hw tw => ?_)
  refine zv_iconst (a := 0) G (by decide) dX0_isNode_36 ?_
  exact zv_pick [] rfl (cpC_X0_isNode_37 hp G M S hl hk (zr_k 0 (by decide) (by decide)) h)
set_option maxHeartbeats 4000000 in
set_option maxRecDepth 100000 in
theorem cpC_X0_isNode_0 {Γ : ZG CW} {D : CD} {d p : Nat} (hp : D.K.1 = p) (G : ZOk Γ cX0_isNode RX0 3 (KnC D) (ZC D)) (M : ZRm Γ (d + 1) D.lim (Option.some Jvm.ClassFile.FieldType.boolean) "isNode" []) (S : SdC d D p Γ.l) (hl : Γ.l.stackTraces = false) (hk : 0 ≤ d) {x1 : Int} {x2 : Int} {w : CW} (rx1 : zr x1) (rx2 : zr x2) (h : pC_X0_isNode_0 p (wpC p d) (fun v w => Γ.Q (.inl (some (ai v))) w) x1 x2 w) : ZV Γ w 0 [(0, ar p), (1, ai x1), (2, ai x2)] [] := by
  refine zc_wk G hp (fun hw tw => ?_)
  refine zv_aload_n G rfl rfl dX0_isNode_0 ?_
  refine zv_iload_n G rfl rfl dX0_isNode_1 ?_
  refine zv_callI (as := [ar p, ai x1]) (st := []) G M (zc_eV (C := zcn 1) G q1551 q1553 qs54 (Or.inl ⟨rfl, rfl⟩) q1554 md_X0_isFunction (zc_rc G (zne tw tw.1 (by decide)) tw.1 (by decide) (by decide) rfl) rfl dX0_isNode_2) (S 48 _ rfl _ _ _ h (zoks_cons trivial (zoks_cons rx1 zoks_nil))) (Or.inl ⟨rfl, rfl⟩) (zc_hk q1554 q143) (by decide) (Nat.le_of_ble_eq_true rfl) (fun v2 u1 rv2 h => ?_) (fun _ _ h => h.elim)
  refine zc_wk G hp (fun hu1 tu1 => ?_)
  refine zv_if_eq (tgt := 36) G rv2 (by decide) dX0_isNode_5 (fun c3 => ?_) (fun c3 => ?_)
  · have h := h.1 c3
    exact zv_pick [] rfl (cpC_X0_isNode_36 hp G M S hl hk h)
  · have h := h.2 c3
    refine zv_iload_n G rfl rfl dX0_isNode_8 ?_
    refine zv_i2l G rx2 dX0_isNode_9 ?_
    refine zv_lconst (a := 0) G (by decide) dX0_isNode_10 ?_
    refine zv_aload_n G rfl rfl dX0_isNode_11 ?_
    refine zc_get (f := 5) (v := ar (fR u1 5 p)) G (hFp tu1 rfl) rfl q2061 (Or.inl rfl) (cV_R rfl) dX0_isNode_12 ?_
    refine zv_iload_n G rfl rfl dX0_isNode_15 ?_
    have o4 := h.1
    have h := h.2
    refine zc_aald G o4.1 rx1 o4.2.1 o4.2.2 dX0_isNode_16 ?_
    have o5 := h.1
    have h := h.2
    refine zc_get (f := 52) (v := ar (fR u1 52 (aR u1 (fR u1 5 p) x1))) G o5 rfl q761 (Or.inl rfl) (cV_R rfl) dX0_isNode_17 ?_
    have o11 := h.1
    have h := h.2
    have en12 : ZEn Γ u1 20 [(0, ar p), (1, ai x1), (2, ai x2)] yX21_many 3 [ar (fR u1 52 (aR u1 (fR u1 5 p) x1))] [al 0, al x2] := by
      rcases o11 with z | z | z | z | z | z | z
      · exact (zc_eV (C := zcn 19) G q1556 q1557 q1564 (Or.inl ⟨rfl, rfl⟩) q1566 md_X21_many (zc_rc G (zne tu1 z (by decide)) z (by decide) (by decide) rfl) rfl dX0_isNode_20)
      · exact (zc_eV (C := zcn 20) G q1556 q1557 q1559 (Or.inl ⟨rfl, rfl⟩) q1566 md_X21_many (zc_rc G (zne tu1 z (by decide)) z (by decide) (by decide) rfl) rfl dX0_isNode_20)
      · exact (zc_eV (C := zcn 21) G q1556 q1557 q1560 (Or.inl ⟨rfl, rfl⟩) q1566 md_X21_many (zc_rc G (zne tu1 z (by decide)) z (by decide) (by decide) rfl) rfl dX0_isNode_20)
      · exact (zc_eV (C := zcn 22) G q1556 q1557 q1561 (Or.inl ⟨rfl, rfl⟩) q1566 md_X21_many (zc_rc G (zne tu1 z (by decide)) z (by decide) (by decide) rfl) rfl dX0_isNode_20)
      · exact (zc_eV (C := zcn 23) G q1556 q1557 q1563 (Or.inl ⟨rfl, rfl⟩) q1566 md_X21_many (zc_rc G (zne tu1 z (by decide)) z (by decide) (by decide) rfl) rfl dX0_isNode_20)
      · exact (zc_eV (C := zcn 24) G q1556 q1557 q1562 (Or.inl ⟨rfl, rfl⟩) q1566 md_X21_many (zc_rc G (zne tu1 z (by decide)) z (by decide) (by decide) rfl) rfl dX0_isNode_20)
      · exact (zc_eV (C := zcn 25) G q1556 q1557 q1565 (Or.inl ⟨rfl, rfl⟩) q1566 md_X21_many (zc_rc G (zne tu1 z (by decide)) z (by decide) (by decide) rfl) rfl dX0_isNode_20)
    refine zv_callI (as := [ar (fR u1 52 (aR u1 (fR u1 5 p) x1))]) (st := [al 0, al x2]) G M en12 (S 153 _ rfl _ _ _ h (zoks_cons trivial zoks_nil)) (Or.inl ⟨rfl, rfl⟩) (zc_hk q1566 q177) (by decide) (Nat.le_of_ble_eq_true rfl) (fun v7 u6 rv7 h => ?_) (fun _ _ h => h.elim)
    refine zc_wk G hp (fun hu6 tu6 => ?_)
    refine zv_iconst (a := 1) G (by decide) dX0_isNode_23 ?_
    refine zv_isub G dX0_isNode_24 ?_
    refine zv_i2l G (w32_r _) dX0_isNode_25 ?_
    refine zv_callI (as := [al x2, al 0, al (w32 (v7 - 1))]) (st := []) G M (zc_eS G q199 q200 q143 q201 md_X0_isIn rfl dX0_isNode_26) (S 1 _ rfl _ _ _ h (zoks_cons (zrl_i rx2) (zoks_cons (zrl_k 0 (by decide) (by decide)) (zoks_cons (zrl_i (w32_r _)) zoks_nil)))) (Or.inl ⟨rfl, rfl⟩) (zc_hk q201 q143) (by decide) (Nat.le_of_ble_eq_true rfl) (fun v9 u8 rv9 h => ?_) (fun _ _ h => h.elim)
    refine zc_wk G hp (fun hu8 tu8 => ?_)
    refine zv_if_eq (tgt := 36) G rv9 (by decide) dX0_isNode_29 (fun c10 => ?_) (fun c10 => ?_)
    · have h := h.1 c10
      exact zv_pick [] rfl (cpC_X0_isNode_36 hp G M S hl hk h)
    · have h := h.2 c10
      refine zv_iconst (a := 1) G (by decide) dX0_isNode_32 ?_
      refine zv_goto (tgt := 37) G (by decide) dX0_isNode_33 ?_
      exact zv_pick [] rfl (cpC_X0_isNode_37 hp G M S hl hk (zr_k 1 (by decide) (by decide)) h)
set_option maxHeartbeats 4000000 in
set_option maxRecDepth 100000 in
theorem cpC_X0_branch_0 {Γ : ZG CW} {D : CD} {d p : Nat} (hp : D.K.1 = p) (G : ZOk Γ cX0_branch RX0 5 (KnC D) (ZC D)) (M : ZRm Γ (d + 1) D.lim (Option.some Jvm.ClassFile.FieldType.int) "branch" []) (S : SdC d D p Γ.l) (hl : Γ.l.stackTraces = false) (hk : 0 ≤ d) {x1 : Int} {x2 : Int} {x3 : Int} {w : CW} (rx1 : zr x1) (rx2 : zr x2) (rx3 : zr x3) (h : pC_X0_branch_0 p (wpC p d) (fun v w => Γ.Q (.inl (some (ai v))) w) x1 x2 x3 w) : ZV Γ w 0 [(0, ar p), (1, ai x1), (2, ai x2), (3, ai x3)] [] := by
  refine zc_wk G hp (fun hw tw => ?_)
  refine zv_aload_n G rfl rfl dX0_branch_0 ?_
  refine zv_iload_n G rfl rfl dX0_branch_1 ?_
  refine zv_iload_n G rfl rfl dX0_branch_2 ?_
  refine zv_callI (as := [ar p, ai x1, ai x2]) (st := []) G M (zc_eV (C := zcn 1) G q1598 q1600 qs55 (Or.inl ⟨rfl, rfl⟩) q1601 md_X0_isNode (zc_rc G (zne tw tw.1 (by decide)) tw.1 (by decide) (by decide) rfl) rfl dX0_branch_3) (S 53 _ rfl _ _ _ h (zoks_cons trivial (zoks_cons rx1 (zoks_cons rx2 zoks_nil)))) (Or.inl ⟨rfl, rfl⟩) (zc_hk q1601 q143) (by decide) (Nat.le_of_ble_eq_true rfl) (fun v2 u1 rv2 h => ?_) (fun _ _ h => h.elim)
  refine zc_wk G hp (fun hu1 tu1 => ?_)
  refine zv_if_ne (tgt := 11) G rv2 (by decide) dX0_branch_6 (fun c3 => ?_) (fun c3 => ?_)
  · have h := h.2 c3
    refine zv_aload_n G rfl rfl dX0_branch_11 ?_
    refine zc_get (f := 5) (v := ar (fR u1 5 p)) G (hFp tu1 rfl) rfl q2061 (Or.inl rfl) (cV_R rfl) dX0_branch_12 ?_
    refine zv_iload_n G rfl rfl dX0_branch_15 ?_
    have o4 := h.1
    have h := h.2
    refine zc_aald G o4.1 rx1 o4.2.1 o4.2.2 dX0_branch_16 ?_
    have o5 := h.1
    have h := h.2
    refine zc_get (f := 52) (v := ar (fR u1 52 (aR u1 (fR u1 5 p) x1))) G o5 rfl q761 (Or.inl rfl) (cV_R rfl) dX0_branch_17 ?_
    refine zv_iload_n G rfl rfl dX0_branch_20 ?_
    have o16 := h.1
    have h := h.2
    have en17 : ZEn Γ u1 21 [(0, ar p), (1, ai x1), (2, ai x2), (3, ai x3)] yX21_find 3 [ar (fR u1 52 (aR u1 (fR u1 5 p) x1)), ai x2] [] := by
      rcases o16 with z | z | z | z | z | z | z
      · exact (zc_eV (C := zcn 19) G q1603 q1604 q1611 (Or.inl ⟨rfl, rfl⟩) q1613 md_X21_find (zc_rc G (zne tu1 z (by decide)) z (by decide) (by decide) rfl) rfl dX0_branch_21)
      · exact (zc_eV (C := zcn 20) G q1603 q1604 q1606 (Or.inl ⟨rfl, rfl⟩) q1613 md_X21_find (zc_rc G (zne tu1 z (by decide)) z (by decide) (by decide) rfl) rfl dX0_branch_21)
      · exact (zc_eV (C := zcn 21) G q1603 q1604 q1607 (Or.inl ⟨rfl, rfl⟩) q1613 md_X21_find (zc_rc G (zne tu1 z (by decide)) z (by decide) (by decide) rfl) rfl dX0_branch_21)
      · exact (zc_eV (C := zcn 22) G q1603 q1604 q1608 (Or.inl ⟨rfl, rfl⟩) q1613 md_X21_find (zc_rc G (zne tu1 z (by decide)) z (by decide) (by decide) rfl) rfl dX0_branch_21)
      · exact (zc_eV (C := zcn 23) G q1603 q1604 q1610 (Or.inl ⟨rfl, rfl⟩) q1613 md_X21_find (zc_rc G (zne tu1 z (by decide)) z (by decide) (by decide) rfl) rfl dX0_branch_21)
      · exact (zc_eV (C := zcn 24) G q1603 q1604 q1609 (Or.inl ⟨rfl, rfl⟩) q1613 md_X21_find (zc_rc G (zne tu1 z (by decide)) z (by decide) (by decide) rfl) rfl dX0_branch_21)
      · exact (zc_eV (C := zcn 25) G q1603 q1604 q1612 (Or.inl ⟨rfl, rfl⟩) q1613 md_X21_find (zc_rc G (zne tu1 z (by decide)) z (by decide) (by decide) rfl) rfl dX0_branch_21)
    refine zv_callR (as := [ar (fR u1 52 (aR u1 (fR u1 5 p) x1)), ai x2]) (st := []) G M en17 (S 155 _ rfl _ _ _ h (zoks_cons trivial (zoks_cons rx2 zoks_nil))) (Or.inl ⟨rfl, rfl⟩) (zc_hk q1613 q177) (by decide) (Nat.le_of_ble_eq_true rfl) (fun v7 u6 h => ?_) (fun _ _ h => h.elim)
    refine zc_wk G hp (fun hu6 tu6 => ?_)
    refine zv_astore G (by decide) rfl dX0_branch_24 ?_
    refine zv_iload_n G rfl rfl dX0_branch_26 ?_
    refine zv_i2l G rx3 dX0_branch_27 ?_
    refine zv_lconst (a := 0) G (by decide) dX0_branch_28 ?_
    refine zv_aload G rfl dX0_branch_29 ?_
    have o8 := h.1
    have h := h.2
    refine zc_get (f := 107) (v := ar (fR u6 107 v7)) G o8 rfl q1361 (Or.inl rfl) (cV_R rfl) dX0_branch_31 ?_
    have o9 := h.1
    have h := h.2
    refine zc_alen G o9 dX0_branch_34 ?_
    refine zv_iconst (a := 1) G (by decide) dX0_branch_35 ?_
    refine zv_isub G dX0_branch_36 ?_
    refine zv_i2l G (w32_r _) dX0_branch_37 ?_
    refine zv_callI (as := [al x3, al 0, al (w32 (((ln u6 (fR u6 107 v7) : Nat) : Int) - 1))]) (st := []) G M (zc_eS G q199 q200 q143 q201 md_X0_isIn rfl dX0_branch_38) (S 1 _ rfl _ _ _ h (zoks_cons (zrl_i rx3) (zoks_cons (zrl_k 0 (by decide) (by decide)) (zoks_cons (zrl_i (w32_r _)) zoks_nil)))) (Or.inl ⟨rfl, rfl⟩) (zc_hk q201 q143) (by decide) (Nat.le_of_ble_eq_true rfl) (fun v11 u10 rv11 h => ?_) (fun _ _ h => h.elim)
    refine zc_wk G hp (fun hu10 tu10 => ?_)
    have o13 := h.1
    have h := h.2
    have kj14 : ∀ v12 : Int, v12 = (if ¬ (v11 = 0) then fI u10 106 (aR u10 (fR u10 107 v7) x3) else (-1)) → ZV Γ u10 58 [(4, ar v7), (0, ar p), (1, ai x1), (2, ai x2), (3, ai x3)] (ai v12 :: []) := by
      intro v12 ev12
      have h := h v12 ev12
      have rv12 : zr v12 := by rw [ev12]; exact (zr_ite (hu10.i 106 _ (by decide)) (zr_k (-1) (by decide) (by decide)))
      exact zv_iret (ty := .int) rv12 G M rfl dX0_branch_58 h
    refine zv_if_eq (tgt := 57) G rv11 (by decide) dX0_branch_41 (fun c15 => ?_) (fun c15 => ?_)
    · refine zv_iconst (a := (-1)) G (by decide) dX0_branch_57 ?_
      exact kj14 _ (if_neg (fun q => q c15)).symm
    · refine zv_aload G rfl dX0_branch_44 ?_
      refine zc_get (f := 107) (v := ar (fR u10 107 v7)) G (o13 c15).1 rfl q1361 (Or.inl rfl) (cV_R rfl) dX0_branch_46 ?_
      refine zv_iload_n G rfl rfl dX0_branch_49 ?_
      refine zc_aald G (o13 c15).2.1.1 rx3 (o13 c15).2.1.2.1 (o13 c15).2.1.2.2 dX0_branch_50 ?_
      refine zc_get (f := 106) (v := ai (fI u10 106 (aR u10 (fR u10 107 v7) x3))) G (o13 c15).2.2 rfl q1344 (Or.inl rfl) (cV_I (by decide) (by decide)) dX0_branch_51 ?_
      refine zv_goto (tgt := 58) G (by decide) dX0_branch_54 ?_
      exact kj14 _ (if_pos c15).symm
  · have h := h.1 c3
    refine zv_iconst (a := (-1)) G (by decide) dX0_branch_9 ?_
    exact zv_iret (ty := .int) (zr_k (-1) (by decide) (by decide)) G M rfl dX0_branch_10 h
set_option maxHeartbeats 4000000 in
set_option maxRecDepth 100000 in
theorem cpC_X0_missing_34 {Γ : ZG CW} {D : CD} {d p : Nat} (hp : D.K.1 = p) (G : ZOk Γ cX0_missing RX0 3 (KnC D) (ZC D)) (M : ZRm Γ (d + 1) D.lim (Option.some Jvm.ClassFile.FieldType.int) "missing" [(10, 33, 34, 443)]) (S : SdC d D p Γ.l) (hl : Γ.l.stackTraces = false) (hk : 0 ≤ d) {s0 : Nat} {w : CW} (h : pC_X0_missing_34 p (wpC p d) (fun v w => Γ.Q (.inl (some (ai v))) w) s0 w) : ZV Γ w 34 [] [ar s0] := by
  refine zc_wk G hp (fun hw tw => ?_)
  refine zv_astore_n G rfl (by decide) rfl dX0_missing_34 ?_
  refine zv_bipush (a := (-3)) G (by decide) dX0_missing_35 ?_
  exact zv_iret (ty := .int) (zr_k (-3) (by decide) (by decide)) G M rfl dX0_missing_37 h
set_option maxHeartbeats 4000000 in
set_option maxRecDepth 100000 in
theorem cpC_X0_missing_0 {Γ : ZG CW} {D : CD} {d p : Nat} (hp : D.K.1 = p) (G : ZOk Γ cX0_missing RX0 3 (KnC D) (ZC D)) (M : ZRm Γ (d + 1) D.lim (Option.some Jvm.ClassFile.FieldType.int) "missing" [(10, 33, 34, 443)]) (S : SdC d D p Γ.l) (hl : Γ.l.stackTraces = false) (hk : 0 ≤ d) {x1 : Int} {w : CW} (rx1 : zr x1) (h : pC_X0_missing_0 p (wpC p d) (fun v w => Γ.Q (.inl (some (ai v))) w) x1 w) : ZV Γ w 0 [(0, ar p), (1, ai x1)] [] := by
  refine zc_wk G hp (fun hw tw => ?_)
  refine zv_aload_n G rfl rfl dX0_missing_0 ?_
  refine zv_iload_n G rfl rfl dX0_missing_1 ?_
  refine zv_callI (as := [ar p, ai x1]) (st := []) G M (zc_eV (C := zcn 1) G q1551 q1553 qs54 (Or.inl ⟨rfl, rfl⟩) q1554 md_X0_isFunction (zc_rc G (zne tw tw.1 (by decide)) tw.1 (by decide) (by decide) rfl) rfl dX0_missing_2) (S 48 _ rfl _ _ _ h (zoks_cons trivial (zoks_cons rx1 zoks_nil))) (Or.inl ⟨rfl, rfl⟩) (zc_hk q1554 q143) (by decide) (Nat.le_of_ble_eq_true rfl) (fun v2 u1 rv2 h => ?_) (fun _ _ h => h.elim)
  refine zc_wk G hp (fun hu1 tu1 => ?_)
  refine zv_if_ne (tgt := 10) G rv2 (by decide) dX0_missing_5 (fun c3 => ?_) (fun c3 => ?_)
  · have h := h.2 c3
    refine zv_aload_n G rfl rfl dX0_missing_10 ?_
    refine zc_get (f := 5) (v := ar (fR u1 5 p)) G (hFp tu1 rfl) rfl q2061 (Or.inl rfl) (cV_R rfl) dX0_missing_11 ?_
    refine zv_iload_n G rfl rfl dX0_missing_14 ?_
    have o4 := h.1
    have h := h.2
    refine zc_aald G o4.1 rx1 o4.2.1 o4.2.2 dX0_missing_15 ?_
    refine zv_iconst (a := 0) G (by decide) dX0_missing_16 ?_
    refine zv_iconst (a := 1) G (by decide) dX0_missing_17 ?_
    have o16 := h.1
    have h := h.2
    refine zv_callR (as := [ar (aR u1 (fR u1 5 p) x1), ai 0, ai 1]) (st := []) G M (zc_eV (C := zcn 4) G q1671 q1200 q1201 (Or.inl ⟨rfl, rfl⟩) q1202 md_X4_make (zc_rc G (zne tu1 o16 (by decide)) o16 (by decide) (by decide) rfl) rfl dX0_missing_18) (S 89 _ rfl _ _ _ h (zoks_cons trivial (zoks_cons (zr_k 0 (by decide) (by decide)) (zoks_cons (zr_k 1 (by decide) (by decide)) zoks_nil)))) (Or.inl ⟨rfl, rfl⟩) (zc_hk q1202 q160) (by decide) (Nat.le_of_ble_eq_true rfl) (fun v6 u5 h => ?_) (fun x14 u15 h => ?_)
    rotate_left
    · have ht := h.1
      have h := h.2
      refine zx_catch G M (by rw [ht]; decide) (by rw [ht]; decide) (by rw [ht]; rfl) q207 (by decide) (by decide) ?_
      refine zc_wk G hp (fun hu15 tu15 => ?_)
      exact zv_pick [] rfl (cpC_X0_missing_34 hp G M S hl hk h)
    refine zc_wk G hp (fun hu5 tu5 => ?_)
    refine zv_null G dX0_missing_21 ?_
    have o12 := h.1
    have h := h.2
    have en13 : ZEn Γ u5 22 [(0, ar p), (1, ai x1)] yX21_has 3 [ar v6, ar 0] [] := by
      rcases o12 with z | z | z | z | z | z | z
      · exact (zc_eV (C := zcn 19) G q1672 q1673 q1680 (Or.inl ⟨rfl, rfl⟩) q1682 md_X21_has (zc_rc G (zne tu5 z (by decide)) z (by decide) (by decide) rfl) rfl dX0_missing_22)
      · exact (zc_eV (C := zcn 20) G q1672 q1673 q1675 (Or.inl ⟨rfl, rfl⟩) q1682 md_X21_has (zc_rc G (zne tu5 z (by decide)) z (by decide) (by decide) rfl) rfl dX0_missing_22)
      · exact (zc_eV (C := zcn 21) G q1672 q1673 q1676 (Or.inl ⟨rfl, rfl⟩) q1682 md_X21_has (zc_rc G (zne tu5 z (by decide)) z (by decide) (by decide) rfl) rfl dX0_missing_22)
      · exact (zc_eV (C := zcn 22) G q1672 q1673 q1677 (Or.inl ⟨rfl, rfl⟩) q1682 md_X21_has (zc_rc G (zne tu5 z (by decide)) z (by decide) (by decide) rfl) rfl dX0_missing_22)
      · exact (zc_eV (C := zcn 23) G q1672 q1673 q1679 (Or.inl ⟨rfl, rfl⟩) q1682 md_X21_has (zc_rc G (zne tu5 z (by decide)) z (by decide) (by decide) rfl) rfl dX0_missing_22)
      · exact (zc_eV (C := zcn 24) G q1672 q1673 q1678 (Or.inl ⟨rfl, rfl⟩) q1682 md_X21_has (zc_rc G (zne tu5 z (by decide)) z (by decide) (by decide) rfl) rfl dX0_missing_22)
      · exact (zc_eV (C := zcn 25) G q1672 q1673 q1681 (Or.inl ⟨rfl, rfl⟩) q1682 md_X21_has (zc_rc G (zne tu5 z (by decide)) z (by decide) (by decide) rfl) rfl dX0_missing_22)
    refine zv_callI (as := [ar v6, ar 0]) (st := []) G M en13 (S 159 _ rfl _ _ _ h (zoks_cons trivial (zoks_cons trivial zoks_nil))) (Or.inl ⟨rfl, rfl⟩) (zc_hk q1682 q177) (by decide) (Nat.le_of_ble_eq_true rfl) (fun v8 u7 rv8 h => ?_) (fun _ _ h => h.elim)
    refine zc_wk G hp (fun hu7 tu7 => ?_)
    have kj10 : ∀ v9 : Int, v9 = (if ¬ (v8 = 0) then 1 else 0) → ZV Γ u7 33 [(0, ar p), (1, ai x1)] (ai v9 :: []) := by
      intro v9 ev9
      have h := h v9 ev9
      have rv9 : zr v9 := by rw [ev9]; exact (zr_ite (zr_k 1 (by decide) (by decide)) (zr_k 0 (by decide) (by decide)))
      have bv9 : v9 = 0 ∨ v9 = 1 := by rw [ev9]; exact (zb_ite (Or.inr rfl) (Or.inl rfl))
      exact zv_iret (ty := .int) rv9 G M rfl dX0_missing_33 h
    refine zv_if_eq (tgt := 32) G rv8 (by decide) dX0_missing_25 (fun c11 => ?_) (fun c11 => ?_)
    · refine zv_iconst (a := 0) G (by decide) dX0_missing_32 ?_
      exact kj10 _ (if_neg (fun q => q c11)).symm
    · refine zv_iconst (a := 1) G (by decide) dX0_missing_28 ?_
      refine zv_goto (tgt := 33) G (by decide) dX0_missing_29 ?_
      exact kj10 _ (if_pos c11).symm
  · have h := h.1 c3
    refine zv_iconst (a := (-1)) G (by decide) dX0_missing_8 ?_
    exact zv_iret (ty := .int) (zr_k (-1) (by decide) (by decide)) G M rfl dX0_missing_9 h
set_option maxHeartbeats 4000000 in
set_option maxRecDepth 100000 in
theorem cpC_X0_unreached_29 {Γ : ZG CW} {D : CD} {d p : Nat} (hp : D.K.1 = p) (G : ZOk Γ cX0_unreached RX0 4 (KnC D) (ZC D)) (M : ZRm Γ (d + 1) D.lim (Option.some Jvm.ClassFile.FieldType.int) "unreached" [(31, 64, 65, 443)]) (S : SdC d D p Γ.l) (hl : Γ.l.stackTraces = false) (hk : 0 ≤ d) {w : CW} (h : pC_X0_unreached_29 p (wpC p d) (fun v w => Γ.Q (.inl (some (ai v))) w) w) : ZV Γ w 29 [] [] := by
  refine zc_wk G hp (fun hw tw => ?_)
  refine zv_iconst (a := (-1)) G (by decide) dX0_unreached_29 ?_
  exact zv_iret (ty := .int) (zr_k (-1) (by decide) (by decide)) G M rfl dX0_unreached_30 h
set_option maxHeartbeats 4000000 in
set_option maxRecDepth 100000 in
theorem cpC_X0_unreached_65 {Γ : ZG CW} {D : CD} {d p : Nat} (hp : D.K.1 = p) (G : ZOk Γ cX0_unreached RX0 4 (KnC D) (ZC D)) (M : ZRm Γ (d + 1) D.lim (Option.some Jvm.ClassFile.FieldType.int) "unreached" [(31, 64, 65, 443)]) (S : SdC d D p Γ.l) (hl : Γ.l.stackTraces = false) (hk : 0 ≤ d) {s0 : Nat} {w : CW} (h : pC_X0_unreached_65 p (wpC p d) (fun v w => Γ.Q (.inl (some (ai v))) w) s0 w) : ZV Γ w 65 [] [ar s0] := by
  refine zc_wk G hp (fun hw tw => ?_)
  refine zv_astore_n G rfl (by decide) rfl dX0_unreached_65 ?_
  refine zv_bipush (a := (-3)) G (by decide) dX0_unreached_66 ?_
  exact zv_iret (ty := .int) (zr_k (-3) (by decide) (by decide)) G M rfl dX0_unreached_68 h
set_option maxHeartbeats 4000000 in
set_option maxRecDepth 100000 in
theorem cpC_X0_unreached_0 {Γ : ZG CW} {D : CD} {d p : Nat} (hp : D.K.1 = p) (G : ZOk Γ cX0_unreached RX0 4 (KnC D) (ZC D)) (M : ZRm Γ (d + 1) D.lim (Option.some Jvm.ClassFile.FieldType.int) "unreached" [(31, 64, 65, 443)]) (S : SdC d D p Γ.l) (hl : Γ.l.stackTraces = false) (hk : 0 ≤ d) {x1 : Int} {x2 : Int} {w : CW} (rx1 : zr x1) (rx2 : zr x2) (h : pC_X0_unreached_0 p (wpC p d) (fun v w => Γ.Q (.inl (some (ai v))) w) x1 x2 w) : ZV Γ w 0 [(0, ar p), (1, ai x1), (2, ai x2)] [] := by
  refine zc_wk G hp (fun hw tw => ?_)
  refine zv_aload_n G rfl rfl dX0_unreached_0 ?_
  refine zv_iload_n G rfl rfl dX0_unreached_1 ?_
  refine zv_callI (as := [ar p, ai x1]) (st := []) G M (zc_eV (C := zcn 1) G q1551 q1553 qs54 (Or.inl ⟨rfl, rfl⟩) q1554 md_X0_isFunction (zc_rc G (zne tw tw.1 (by decide)) tw.1 (by decide) (by decide) rfl) rfl dX0_unreached_2) (S 48 _ rfl _ _ _ h (zoks_cons trivial (zoks_cons rx1 zoks_nil))) (Or.inl ⟨rfl, rfl⟩) (zc_hk q1554 q143) (by decide) (Nat.le_of_ble_eq_true rfl) (fun v2 u1 rv2 h => ?_) (fun _ _ h => h.elim)
  refine zc_wk G hp (fun hu1 tu1 => ?_)
  refine zv_if_eq (tgt := 29) G rv2 (by decide) dX0_unreached_5 (fun c3 => ?_) (fun c3 => ?_)
  · have h := h.1 c3
    exact zv_pick [] rfl (cpC_X0_unreached_29 hp G M S hl hk h)
  · have h := h.2 c3
    refine zv_iload_n G rfl rfl dX0_unreached_8 ?_
    refine zv_i2l G rx2 dX0_unreached_9 ?_
    refine zv_lconst (a := 0) G (by decide) dX0_unreached_10 ?_
    refine zv_aload_n G rfl rfl dX0_unreached_11 ?_
    refine zc_get (f := 5) (v := ar (fR u1 5 p)) G (hFp tu1 rfl) rfl q2061 (Or.inl rfl) (cV_R rfl) dX0_unreached_12 ?_
    refine zv_iload_n G rfl rfl dX0_unreached_15 ?_
    have o4 := h.1
    have h := h.2
    refine zc_aald G o4.1 rx1 o4.2.1 o4.2.2 dX0_unreached_16 ?_
    have o5 := h.1
    have h := h.2
    refine zc_get (f := 48) (v := ai (fI u1 48 (aR u1 (fR u1 5 p) x1))) G o5 rfl q754 (Or.inl rfl) (cV_I (by decide) (by decide)) dX0_unreached_17 ?_
    refine zv_iconst (a := 1) G (by decide) dX0_unreached_20 ?_
    refine zv_isub G dX0_unreached_21 ?_
    refine zv_i2l G (w32_r _) dX0_unreached_22 ?_
    refine zv_callI (as := [al x2, al 0, al (w32 ((fI u1 48 (aR u1 (fR u1 5 p) x1)) - 1))]) (st := []) G M (zc_eS G q199 q200 q143 q201 md_X0_isIn rfl dX0_unreached_23) (S 1 _ rfl _ _ _ h (zoks_cons (zrl_i rx2) (zoks_cons (zrl_k 0 (by decide) (by decide)) (zoks_cons (zrl_i (w32_r _)) zoks_nil)))) (Or.inl ⟨rfl, rfl⟩) (zc_hk q201 q143) (by decide) (Nat.le_of_ble_eq_true rfl) (fun v7 u6 rv7 h => ?_) (fun _ _ h => h.elim)
    refine zc_wk G hp (fun hu6 tu6 => ?_)
    refine zv_if_ne (tgt := 31) G rv7 (by decide) dX0_unreached_26 (fun c8 => ?_) (fun c8 => ?_)
    · have h := h.2 c8
      refine zv_aload_n G rfl rfl dX0_unreached_31 ?_
      refine zc_get (f := 5) (v := ar (fR u6 5 p)) G (hFp tu6 rfl) rfl q2061 (Or.inl rfl) (cV_R rfl) dX0_unreached_32 ?_
      refine zv_iload_n G rfl rfl dX0_unreached_35 ?_
      have o9 := h.1
      have h := h.2
      refine zc_aald G o9.1 rx1 o9.2.1 o9.2.2 dX0_unreached_36 ?_
      refine zv_iconst (a := 0) G (by decide) dX0_unreached_37 ?_
      refine zv_iconst (a := 0) G (by decide) dX0_unreached_38 ?_
      have o24 := h.1
      have h := h.2
      refine zv_callR (as := [ar (aR u6 (fR u6 5 p) x1), ai 0, ai 0]) (st := []) G M (zc_eV (C := zcn 4) G q1671 q1200 q1201 (Or.inl ⟨rfl, rfl⟩) q1202 md_X4_make (zc_rc G (zne tu6 o24 (by decide)) o24 (by decide) (by decide) rfl) rfl dX0_unreached_39) (S 89 _ rfl _ _ _ h (zoks_cons trivial (zoks_cons (zr_k 0 (by decide) (by decide)) (zoks_cons (zr_k 0 (by decide) (by decide)) zoks_nil)))) (Or.inl ⟨rfl, rfl⟩) (zc_hk q1202 q160) (by decide) (Nat.le_of_ble_eq_true rfl) (fun v11 u10 h => ?_) (fun x22 u23 h => ?_)
      rotate_left
      · have ht := h.1
        have h := h.2
        refine zx_catch G M (by rw [ht]; decide) (by rw [ht]; decide) (by rw [ht]; rfl) q207 (by decide) (by decide) ?_
        refine zc_wk G hp (fun hu23 tu23 => ?_)
        exact zv_pick [] rfl (cpC_X0_unreached_65 hp G M S hl hk h)
      refine zc_wk G hp (fun hu10 tu10 => ?_)
      refine zv_aload_n G rfl rfl dX0_unreached_42 ?_
      refine zc_get (f := 5) (v := ar (fR u10 5 p)) G (hFp tu10 rfl) rfl q2061 (Or.inl rfl) (cV_R rfl) dX0_unreached_43 ?_
      refine zv_iload_n G rfl rfl dX0_unreached_46 ?_
      have o12 := h.1
      have h := h.2
      refine zc_aald G o12.1 rx1 o12.2.1 o12.2.2 dX0_unreached_47 ?_
      have o13 := h.1
      have h := h.2
      refine zc_get (f := 47) (v := ar (fR u10 47 (aR u10 (fR u10 5 p) x1))) G o13 rfl q752 (Or.inl rfl) (cV_R rfl) dX0_unreached_48 ?_
      refine zv_iload_n G rfl rfl dX0_unreached_51 ?_
      have o14 := h.1
      have h := h.2
      refine zc_aald G o14.1 rx2 o14.2.1 o14.2.2 dX0_unreached_52 ?_
      have o20 := h.1
      have h := h.2
      have en21 : ZEn Γ u10 53 [(0, ar p), (1, ai x1), (2, ai x2)] yX21_has 3 [ar v11, ar (aR u10 (fR u10 47 (aR u10 (fR u10 5 p) x1)) x2)] [] := by
        rcases o20 with z | z | z | z | z | z | z
        · exact (zc_eV (C := zcn 19) G q1672 q1673 q1680 (Or.inl ⟨rfl, rfl⟩) q1682 md_X21_has (zc_rc G (zne tu10 z (by decide)) z (by decide) (by decide) rfl) rfl dX0_unreached_53)
        · exact (zc_eV (C := zcn 20) G q1672 q1673 q1675 (Or.inl ⟨rfl, rfl⟩) q1682 md_X21_has (zc_rc G (zne tu10 z (by decide)) z (by decide) (by decide) rfl) rfl dX0_unreached_53)
        · exact (zc_eV (C := zcn 21) G q1672 q1673 q1676 (Or.inl ⟨rfl, rfl⟩) q1682 md_X21_has (zc_rc G (zne tu10 z (by decide)) z (by decide) (by decide) rfl) rfl dX0_unreached_53)
        · exact (zc_eV (C := zcn 22) G q1672 q1673 q1677 (Or.inl ⟨rfl, rfl⟩) q1682 md_X21_has (zc_rc G (zne tu10 z (by decide)) z (by decide) (by decide) rfl) rfl dX0_unreached_53)
        · exact (zc_eV (C := zcn 23) G q1672 q1673 q1679 (Or.inl ⟨rfl, rfl⟩) q1682 md_X21_has (zc_rc G (zne tu10 z (by decide)) z (by decide) (by decide) rfl) rfl dX0_unreached_53)
        · exact (zc_eV (C := zcn 24) G q1672 q1673 q1678 (Or.inl ⟨rfl, rfl⟩) q1682 md_X21_has (zc_rc G (zne tu10 z (by decide)) z (by decide) (by decide) rfl) rfl dX0_unreached_53)
        · exact (zc_eV (C := zcn 25) G q1672 q1673 q1681 (Or.inl ⟨rfl, rfl⟩) q1682 md_X21_has (zc_rc G (zne tu10 z (by decide)) z (by decide) (by decide) rfl) rfl dX0_unreached_53)
      refine zv_callI (as := [ar v11, ar (aR u10 (fR u10 47 (aR u10 (fR u10 5 p) x1)) x2)]) (st := []) G M en21 (S 159 _ rfl _ _ _ h (zoks_cons trivial (zoks_cons trivial zoks_nil))) (Or.inl ⟨rfl, rfl⟩) (zc_hk q1682 q177) (by decide) (Nat.le_of_ble_eq_true rfl) (fun v16 u15 rv16 h => ?_) (fun _ _ h => h.elim)
      refine zc_wk G hp (fun hu15 tu15 => ?_)
      have kj18 : ∀ v17 : Int, v17 = (if v16 = 0 then 1 else 0) → ZV Γ u15 64 [(0, ar p), (1, ai x1), (2, ai x2)] (ai v17 :: []) := by
        intro v17 ev17
        have h := h v17 ev17
        have rv17 : zr v17 := by rw [ev17]; exact (zr_ite (zr_k 1 (by decide) (by decide)) (zr_k 0 (by decide) (by decide)))
        have bv17 : v17 = 0 ∨ v17 = 1 := by rw [ev17]; exact (zb_ite (Or.inr rfl) (Or.inl rfl))
        exact zv_iret (ty := .int) rv17 G M rfl dX0_unreached_64 h
      refine zv_if_eq (tgt := 63) G rv16 (by decide) dX0_unreached_56 (fun c19 => ?_) (fun c19 => ?_)
      · refine zv_iconst (a := 1) G (by decide) dX0_unreached_63 ?_
        exact kj18 _ (if_pos c19).symm
      · refine zv_iconst (a := 0) G (by decide) dX0_unreached_59 ?_
        refine zv_goto (tgt := 64) G (by decide) dX0_unreached_60 ?_
        exact kj18 _ (if_neg c19).symm
    · have h := h.1 c8
      exact zv_pick [] rfl (cpC_X0_unreached_29 hp G M S hl hk h)
set_option maxHeartbeats 4000000 in
set_option maxRecDepth 100000 in
theorem cpC_X0_whole_31 {Γ : ZG CW} {D : CD} {d p : Nat} (hp : D.K.1 = p) (G : ZOk Γ cX0_whole RX0 2 (KnC D) (ZC D)) (M : ZRm Γ (d + 1) D.lim (Option.some Jvm.ClassFile.FieldType.int) "whole" []) (S : SdC d D p Γ.l) (hl : Γ.l.stackTraces = false) (hk : 0 ≤ d) {s0 : Int} {w : CW} (rs0 : zr s0) (h : pC_X0_whole_31 p (wpC p d) (fun v w => Γ.Q (.inl (some (ai v))) w) s0 w) : ZV Γ w 31 [] [ai s0] := by
  refine zc_wk G hp (fun hw tw => ?_)
  exact zv_iret (ty := .int) rs0 G M rfl dX0_whole_31 h
set_option maxHeartbeats 4000000 in
set_option maxRecDepth 100000 in
theorem cpC_X0_whole_0 {Γ : ZG CW} {D : CD} {d p : Nat} (hp : D.K.1 = p) (G : ZOk Γ cX0_whole RX0 2 (KnC D) (ZC D)) (M : ZRm Γ (d + 1) D.lim (Option.some Jvm.ClassFile.FieldType.int) "whole" []) (S : SdC d D p Γ.l) (hl : Γ.l.stackTraces = false) (hk : 0 ≤ d) {x1 : Int} {w : CW} (rx1 : zr x1) (h : pC_X0_whole_0 p (wpC p d) (fun v w => Γ.Q (.inl (some (ai v))) w) x1 w) : ZV Γ w 0 [(0, ar p), (1, ai x1)] [] := by
  refine zc_wk G hp (fun hw tw => ?_)
  refine zv_aload_n G rfl rfl dX0_whole_0 ?_
  refine zc_get (f := 4) (v := ai (fI w 4 p)) G (hFp tw rfl) rfl q2060 (Or.inl rfl) (cV_I (by decide) (by decide)) dX0_whole_1 ?_
  refine zv_sipush (a := 160) G (by decide) dX0_whole_4 ?_
  refine zv_icmp_ne (tgt := 15) G (hw.i 4 _ (by decide)) (zr_k 160 (by decide) (by decide)) (by decide) dX0_whole_7 (fun c1 => ?_) (fun c1 => ?_)
  · have h := h.2 c1
    refine zv_aload_n G rfl rfl dX0_whole_15 ?_
    have o3 := h.1
    have h := h.2
    refine zc_new (ci := 25) (t := 26) (n := 3) G M rfl rfl (by decide) rfl q1693 q1694 q187 o3 dX0_whole_16 (fun u2 eu2 => ?_)
    have h := h u2 eu2
    refine zc_wk G hp (fun hu2 tu2 => ?_)
    refine zv_dup G rfl dX0_whole_19 ?_
    refine zv_aload_n G rfl rfl dX0_whole_20 ?_
    refine zc_get (f := 4) (v := ai (fI u2 4 p)) G (hFp tu2 rfl) rfl q2060 (Or.inl rfl) (cV_I (by decide) (by decide)) dX0_whole_21 ?_
    refine zv_iload_n G rfl rfl dX0_whole_24 ?_
    refine zv_callV (as := [ar (cz w + 1), ai (fI u2 4 p), ai x1]) (st := [ar (cz w + 1), ar p]) G M (zc_eI G rfl q1695 q1696 q1697 md_X31_init (Nat.succ_ne_zero _) rfl dX0_whole_25) (S 186 _ rfl _ _ _ h (zoks_cons trivial (zoks_cons (hu2.i 4 _ (by decide)) (zoks_cons rx1 zoks_nil)))) (Or.inl ⟨rfl, rfl⟩) (zc_hk q1697 q187) (by decide) (Nat.le_of_ble_eq_true rfl) (fun u4 h => ?_) (fun _ _ h => h.elim)
    refine zc_wk G hp (fun hu4 tu4 => ?_)
    refine zv_callI (as := [ar p, ar (cz w + 1)]) (st := []) G M (zc_eV (C := zcn 1) G q1718 q1720 qs56 (Or.inl ⟨rfl, rfl⟩) q1721 md_X0_keep (zc_rc G (zne tu4 tu4.1 (by decide)) tu4.1 (by decide) (by decide) rfl) rfl dX0_whole_28) (S 58 _ rfl _ _ _ h (zoks_cons trivial (zoks_cons trivial zoks_nil))) (Or.inl ⟨rfl, rfl⟩) (zc_hk q1721 q143) (by decide) (Nat.le_of_ble_eq_true rfl) (fun v7 u6 rv7 h => ?_) (fun _ _ h => h.elim)
    refine zc_wk G hp (fun hu6 tu6 => ?_)
    exact zv_pick [] rfl (cpC_X0_whole_31 hp G M S hl hk rv7 h)
  · have h := h.1 c1
    refine zv_bipush (a := (-3)) G (by decide) dX0_whole_10 ?_
    refine zv_goto (tgt := 31) G (by decide) dX0_whole_12 ?_
    exact zv_pick [] rfl (cpC_X0_whole_31 hp G M S hl hk (zr_k (-3) (by decide) (by decide)) h)
set_option maxHeartbeats 4000000 in
set_option maxRecDepth 100000 in
theorem cpC_X0_keep_0 {Γ : ZG CW} {D : CD} {d p : Nat} (hp : D.K.1 = p) (G : ZOk Γ cX0_keep RX0 2 (KnC D) (ZC D)) (M : ZRm Γ (d + 1) D.lim (Option.some Jvm.ClassFile.FieldType.int) "keep" []) (S : SdC d D p Γ.l) (hl : Γ.l.stackTraces = false) (hk : 0 ≤ d) {x1 : Nat} {w : CW} (h : pC_X0_keep_0 p (wpC p d) (fun v w => Γ.Q (.inl (some (ai v))) w) x1 w) : ZV Γ w 0 [(0, ar p), (1, ar x1)] [] := by
  refine zc_wk G hp (fun hw tw => ?_)
  refine zv_aload_n G rfl rfl dX0_keep_0 ?_
  refine zc_get (f := 3) (v := ar (fR w 3 p)) G (hFp tw rfl) rfl q2059 (Or.inl rfl) (cV_R rfl) dX0_keep_1 ?_
  refine zv_aload_n G rfl rfl dX0_keep_4 ?_
  refine zc_get (f := 4) (v := ai (fI w 4 p)) G (hFp tw rfl) rfl q2060 (Or.inl rfl) (cV_I (by decide) (by decide)) dX0_keep_5 ?_
  refine zv_aload_n G rfl rfl dX0_keep_8 ?_
  have o2 := h.1
  have h := h.2
  have o3 := h.1
  have h := h.2
  refine zc_aast G o2.1 o3 (hw.i 4 _ (by decide)) o2.2.1 o2.2.2 dX0_keep_9 (fun u1 eu1 => ?_)
  have h := h u1 eu1
  refine zc_wk G hp (fun hu1 tu1 => ?_)
  refine zv_aload_n G rfl rfl dX0_keep_10 ?_
  refine zv_dup G rfl dX0_keep_11 ?_
  refine zc_get (f := 4) (v := ai (fI u1 4 p)) G (hFp tu1 rfl) rfl q2060 (Or.inl rfl) (cV_I (by decide) (by decide)) dX0_keep_12 ?_
  refine zv_iconst (a := 1) G (by decide) dX0_keep_15 ?_
  refine zv_iadd G dX0_keep_16 ?_
  refine zc_putI (f := 4) G M (hPp tu1 rfl) rfl q2060 (Or.inl rfl) (Or.inl rfl) (zfty_4) rfl rfl (by decide) (by decide) (w32_r _) dX0_keep_17 (fun u4 eu4 => ?_)
  have h := h u4 eu4
  refine zc_wk G hp (fun hu4 tu4 => ?_)
  refine zv_aload_n G rfl rfl dX0_keep_20 ?_
  have o5 := h.1
  have h := h.2
  refine zc_get (f := 113) (v := ai (fI u4 113 x1)) G o5 rfl q1708 (Or.inl rfl) (cV_I (by decide) (by decide)) dX0_keep_21 ?_
  exact zv_iret (ty := .int) (hu4.i 113 _ (by decide)) G M rfl dX0_keep_24 h
set_option maxHeartbeats 4000000 in
set_option maxRecDepth 100000 in
theorem cpC_X0_truth_39 {Γ : ZG CW} {D : CD} {d p : Nat} (hp : D.K.1 = p) (G : ZOk Γ cX0_truth RX0 2 (KnC D) (ZC D)) (M : ZRm Γ (d + 1) D.lim (Option.some Jvm.ClassFile.FieldType.int) "truth" []) (S : SdC d D p Γ.l) (hl : Γ.l.stackTraces = false) (hk : 0 ≤ d) {s0 : Int} {w : CW} (rs0 : zr s0) (h : pC_X0_truth_39 p (wpC p d) (fun v w => Γ.Q (.inl (some (ai v))) w) s0 w) : ZV Γ w 39 [] [ai s0] := by
  refine zc_wk G hp (fun hw tw => ?_)
  exact zv_iret (ty := .int) rs0 G M rfl dX0_truth_39 h
set_option maxHeartbeats 4000000 in
set_option maxRecDepth 100000 in
theorem cpC_X0_truth_0 {Γ : ZG CW} {D : CD} {d p : Nat} (hp : D.K.1 = p) (G : ZOk Γ cX0_truth RX0 2 (KnC D) (ZC D)) (M : ZRm Γ (d + 1) D.lim (Option.some Jvm.ClassFile.FieldType.int) "truth" []) (S : SdC d D p Γ.l) (hl : Γ.l.stackTraces = false) (hk : 0 ≤ d) {x1 : Int} {w : CW} (rx1 : zr x1) (h : pC_X0_truth_0 p (wpC p d) (fun v w => Γ.Q (.inl (some (ai v))) w) x1 w) : ZV Γ w 0 [(0, ar p), (1, ai x1)] [] := by
  refine zc_wk G hp (fun hw tw => ?_)
  refine zv_aload_n G rfl rfl dX0_truth_0 ?_
  refine zc_get (f := 4) (v := ai (fI w 4 p)) G (hFp tw rfl) rfl q2060 (Or.inl rfl) (cV_I (by decide) (by decide)) dX0_truth_1 ?_
  refine zv_sipush (a := 160) G (by decide) dX0_truth_4 ?_
  refine zv_icmp_ne (tgt := 15) G (hw.i 4 _ (by decide)) (zr_k 160 (by decide) (by decide)) (by decide) dX0_truth_7 (fun c1 => ?_) (fun c1 => ?_)
  · have h := h.2 c1
    refine zv_aload_n G rfl rfl dX0_truth_15 ?_
    have o3 := h.1
    have h := h.2
    refine zc_new (ci := 26) (t := 27) (n := 3) G M rfl rfl (by decide) rfl q1726 q1727 q188 o3 dX0_truth_16 (fun u2 eu2 => ?_)
    have h := h u2 eu2
    refine zc_wk G hp (fun hu2 tu2 => ?_)
    refine zv_dup G rfl dX0_truth_19 ?_
    refine zv_aload_n G rfl rfl dX0_truth_20 ?_
    refine zc_get (f := 4) (v := ai (fI u2 4 p)) G (hFp tu2 rfl) rfl q2060 (Or.inl rfl) (cV_I (by decide) (by decide)) dX0_truth_21 ?_
    refine zv_iload_n G rfl rfl dX0_truth_24 ?_
    have kj9 : ∀ v4 : Int, v4 = (if ¬ (x1 = 0) then 1 else 0) → ZV Γ u2 33 [(0, ar p), (1, ai x1)] (ai v4 :: ai (fI u2 4 p) :: ar (cz w + 1) :: ar (cz w + 1) :: ar p :: []) := by
      intro v4 ev4
      have h := h v4 ev4
      have rv4 : zr v4 := by rw [ev4]; exact (zr_ite (zr_k 1 (by decide) (by decide)) (zr_k 0 (by decide) (by decide)))
      have bv4 : v4 = 0 ∨ v4 = 1 := by rw [ev4]; exact (zb_ite (Or.inr rfl) (Or.inl rfl))
      refine zv_callV (as := [ar (cz w + 1), ai (fI u2 4 p), ai v4]) (st := [ar (cz w + 1), ar p]) G M (zc_eI G rfl q1728 q1729 q1730 md_X32_init (Nat.succ_ne_zero _) rfl dX0_truth_33) (S 190 _ rfl _ _ _ h (zoks_cons trivial (zoks_cons (hu2.i 4 _ (by decide)) (zoks_cons rv4 zoks_nil)))) (Or.inl ⟨rfl, rfl⟩) (zc_hk q1730 q188) (by decide) (Nat.le_of_ble_eq_true rfl) (fun u5 h => ?_) (fun _ _ h => h.elim)
      refine zc_wk G hp (fun hu5 tu5 => ?_)
      refine zv_callI (as := [ar p, ar (cz w + 1)]) (st := []) G M (zc_eV (C := zcn 1) G q1718 q1720 qs56 (Or.inl ⟨rfl, rfl⟩) q1721 md_X0_keep (zc_rc G (zne tu5 tu5.1 (by decide)) tu5.1 (by decide) (by decide) rfl) rfl dX0_truth_36) (S 58 _ rfl _ _ _ h (zoks_cons trivial (zoks_cons trivial zoks_nil))) (Or.inl ⟨rfl, rfl⟩) (zc_hk q1721 q143) (by decide) (Nat.le_of_ble_eq_true rfl) (fun v8 u7 rv8 h => ?_) (fun _ _ h => h.elim)
      refine zc_wk G hp (fun hu7 tu7 => ?_)
      exact zv_pick [] rfl (cpC_X0_truth_39 hp G M S hl hk rv8 h)
    refine zv_if_eq (tgt := 32) G rx1 (by decide) dX0_truth_25 (fun c10 => ?_) (fun c10 => ?_)
    · refine zv_iconst (a := 0) G (by decide) dX0_truth_32 ?_
      exact kj9 _ (if_neg (fun q => q c10)).symm
    · refine zv_iconst (a := 1) G (by decide) dX0_truth_28 ?_
      refine zv_goto (tgt := 33) G (by decide) dX0_truth_29 ?_
      exact kj9 _ (if_pos c10).symm
  · have h := h.1 c1
    refine zv_bipush (a := (-3)) G (by decide) dX0_truth_10 ?_
    refine zv_goto (tgt := 39) G (by decide) dX0_truth_12 ?_
    exact zv_pick [] rfl (cpC_X0_truth_39 hp G M S hl hk (zr_k (-3) (by decide) (by decide)) h)
set_option maxHeartbeats 4000000 in
set_option maxRecDepth 100000 in
theorem cpC_X0_letters_95 {Γ : ZG CW} {D : CD} {d p : Nat} (hp : D.K.1 = p) (G : ZOk Γ cX0_letters RX0 6 (KnC D) (ZC D)) (M : ZRm Γ (d + 1) D.lim (Option.some Jvm.ClassFile.FieldType.int) "letters" []) (S : SdC d D p Γ.l) (hl : Γ.l.stackTraces = false) (hk : 0 ≤ d) {s0 : Int} {w : CW} (rs0 : zr s0) (h : pC_X0_letters_95 p (wpC p d) (fun v w => Γ.Q (.inl (some (ai v))) w) s0 w) : ZV Γ w 95 [] [ai s0] := by
  refine zc_wk G hp (fun hw tw => ?_)
  exact zv_iret (ty := .int) rs0 G M rfl dX0_letters_95 h
set_option maxHeartbeats 4000000 in
set_option maxRecDepth 100000 in
theorem cpC_X0_letters_64 {Γ : ZG CW} {D : CD} {d p : Nat} (hp : D.K.1 = p) (G : ZOk Γ cX0_letters RX0 6 (KnC D) (ZC D)) (M : ZRm Γ (d + 1) D.lim (Option.some Jvm.ClassFile.FieldType.int) "letters" []) (S : SdC d D p Γ.l) (hl : Γ.l.stackTraces = false) (hk : 0 ≤ d) {x1 : Int} {w : CW} (rx1 : zrl x1) (h : pC_X0_letters_64 p (wpC p d) (fun v w => Γ.Q (.inl (some (ai v))) w) x1 w) : ZV Γ w 64 [(0, ar p), (1, al x1)] [] := by
  refine zc_wk G hp (fun hw tw => ?_)
  refine zv_aload_n G rfl rfl dX0_letters_64 ?_
  refine zc_get (f := 4) (v := ai (fI w 4 p)) G (hFp tw rfl) rfl q2060 (Or.inl rfl) (cV_I (by decide) (by decide)) dX0_letters_65 ?_
  refine zv_sipush (a := 160) G (by decide) dX0_letters_68 ?_
  refine zv_icmp_ne (tgt := 79) G (hw.i 4 _ (by decide)) (zr_k 160 (by decide) (by decide)) (by decide) dX0_letters_71 (fun c2 => ?_) (fun c2 => ?_)
  · have h := h.2 c2
    refine zv_aload_n G rfl rfl dX0_letters_79 ?_
    have o4 := h.1
    have h := h.2
    refine zc_new (ci := 27) (t := 28) (n := 3) G M rfl rfl (by decide) rfl q1740 q1741 q189 o4 dX0_letters_80 (fun u3 eu3 => ?_)
    have h := h u3 eu3
    refine zc_wk G hp (fun hu3 tu3 => ?_)
    refine zv_dup G rfl dX0_letters_83 ?_
    refine zv_aload_n G rfl rfl dX0_letters_84 ?_
    refine zc_get (f := 4) (v := ai (fI u3 4 p)) G (hFp tu3 rfl) rfl q2060 (Or.inl rfl) (cV_I (by decide) (by decide)) dX0_letters_85 ?_
    refine zv_lload_n G rfl rfl dX0_letters_88 ?_
    refine zv_callV (as := [ar (cz w + 1), ai (fI u3 4 p), al x1]) (st := [ar (cz w + 1), ar p]) G M (zc_eI G rfl q1742 q1743 q1744 md_X33_init (Nat.succ_ne_zero _) rfl dX0_letters_89) (S 192 _ rfl _ _ _ h (zoks_cons trivial (zoks_cons (hu3.i 4 _ (by decide)) (zoks_cons rx1 zoks_nil)))) (Or.inl ⟨rfl, rfl⟩) (zc_hk q1744 q189) (by decide) (Nat.le_of_ble_eq_true rfl) (fun u5 h => ?_) (fun _ _ h => h.elim)
    refine zc_wk G hp (fun hu5 tu5 => ?_)
    refine zv_callI (as := [ar p, ar (cz w + 1)]) (st := []) G M (zc_eV (C := zcn 1) G q1718 q1720 qs56 (Or.inl ⟨rfl, rfl⟩) q1721 md_X0_keep (zc_rc G (zne tu5 tu5.1 (by decide)) tu5.1 (by decide) (by decide) rfl) rfl dX0_letters_92) (S 58 _ rfl _ _ _ h (zoks_cons trivial (zoks_cons trivial zoks_nil))) (Or.inl ⟨rfl, rfl⟩) (zc_hk q1721 q143) (by decide) (Nat.le_of_ble_eq_true rfl) (fun v8 u7 rv8 h => ?_) (fun _ _ h => h.elim)
    refine zc_wk G hp (fun hu7 tu7 => ?_)
    exact zv_pick [] rfl (cpC_X0_letters_95 hp G M S hl hk rv8 h)
  · have h := h.1 c2
    refine zv_bipush (a := (-3)) G (by decide) dX0_letters_74 ?_
    refine zv_goto (tgt := 95) G (by decide) dX0_letters_76 ?_
    exact zv_pick [] rfl (cpC_X0_letters_95 hp G M S hl hk (zr_k (-3) (by decide) (by decide)) h)
set_option maxHeartbeats 4000000 in
set_option maxRecDepth 100000 in
theorem cpC_X0_letters_58 {Γ : ZG CW} {D : CD} {d p : Nat} (hp : D.K.1 = p) (G : ZOk Γ cX0_letters RX0 6 (KnC D) (ZC D)) (M : ZRm Γ (d + 1) D.lim (Option.some Jvm.ClassFile.FieldType.int) "letters" []) (S : SdC d D p Γ.l) (hl : Γ.l.stackTraces = false) (hk : 0 ≤ d) {I5 : Int → Int → CW → Prop} {x1 : Int} {x3 : Int} {x4 : Int} {w : CW} (hI5 : ∀ (x3 : Int) (x4 : Int) (w : CW), I5 x3 x4 w → zr x3 → zr x4 → ZV Γ w 5 [(0, ar p), (1, al x1), (3, ai x3), (4, ai x4)] []) (rx1 : zrl x1) (rx3 : zr x3) (rx4 : zr x4) (h : pC_X0_letters_58 p (wpC p d) (fun v w => Γ.Q (.inl (some (ai v))) w) I5 x1 x3 x4 w) : ZV Γ w 58 [(0, ar p), (1, al x1), (3, ai x3), (4, ai x4)] [] := by
  refine zc_wk G hp (fun hw tw => ?_)
  refine zv_iincN G rfl (by decide) dX0_letters_58 (fun x4_13 ex4_13 => ?_)
  have h := h x4_13 ex4_13
  have rx4_13 : zr x4_13 := by rw [ex4_13]; exact w32_r _
  refine zv_goto (tgt := 5) G (by decide) dX0_letters_61 ?_
  exact zv_pick [0, 1, 3, 4] rfl (hI5 _ _ _ h rx3 rx4_13)
set_option maxHeartbeats 4000000 in
set_option maxRecDepth 100000 in
theorem cpC_X0_letters_56 {Γ : ZG CW} {D : CD} {d p : Nat} (hp : D.K.1 = p) (G : ZOk Γ cX0_letters RX0 6 (KnC D) (ZC D)) (M : ZRm Γ (d + 1) D.lim (Option.some Jvm.ClassFile.FieldType.int) "letters" []) (S : SdC d D p Γ.l) (hl : Γ.l.stackTraces = false) (hk : 0 ≤ d) {w : CW} (h : pC_X0_letters_56 p (wpC p d) (fun v w => Γ.Q (.inl (some (ai v))) w) w) : ZV Γ w 56 [] [] := by
  refine zc_wk G hp (fun hw tw => ?_)
  refine zv_iconst (a := (-1)) G (by decide) dX0_letters_56 ?_
  exact zv_iret (ty := .int) (zr_k (-1) (by decide) (by decide)) G M rfl dX0_letters_57 h
set_option maxHeartbeats 4000000 in
set_option maxRecDepth 100000 in
theorem cpC_X0_letters_5 {Γ : ZG CW} {D : CD} {d p : Nat} (hp : D.K.1 = p) (G : ZOk Γ cX0_letters RX0 6 (KnC D) (ZC D)) (M : ZRm Γ (d + 1) D.lim (Option.some Jvm.ClassFile.FieldType.int) "letters" []) (S : SdC d D p Γ.l) (hl : Γ.l.stackTraces = false) (hk : 0 ≤ d) {x1 : Int} {x3 : Int} {x4 : Int} {w : CW} (rx1 : zrl x1) (rx3 : zr x3) (rx4 : zr x4) (h : pC_X0_letters_5 p (wpC p d) (fun v w => Γ.Q (.inl (some (ai v))) w) x1 x3 x4 w) : ZV Γ w 5 [(0, ar p), (1, al x1), (3, ai x3), (4, ai x4)] [] := by
  obtain ⟨I5, eI5⟩ : ∃ I : Int → Int → CW → Prop, I = (fun x3 x4 w => zr x3 → zr x4 → ZV Γ w 5 [(0, ar p), (1, al x1), (3, ai x3), (4, ai x4)] []) := ⟨_, rfl⟩
  have hI5 : ∀ (x3 : Int) (x4 : Int) (w : CW), I5 x3 x4 w → zr x3 → zr x4 → ZV Γ w 5 [(0, ar p), (1, al x1), (3, ai x3), (4, ai x4)] [] := by subst eI5; exact fun _ _ _ z => z
  have hJ5 : ∀ (x3 : Int) (x4 : Int) (w : CW), (zr x3 → zr x4 → ZV Γ w 5 [(0, ar p), (1, al x1), (3, ai x3), (4, ai x4)] []) → I5 x3 x4 w := by subst eI5; exact fun _ _ _ z => z
  refine hI5 x3 x4 w (h I5 (fun x3 x4 w h => hJ5 x3 x4 w (fun rx3 rx4 => ?_))) rx3 rx4
  refine zc_wk G hp (fun hw tw => ?_)
  refine zv_iload G rfl dX0_letters_5 ?_
  refine zv_bipush (a := 8) G (by decide) dX0_letters_7 ?_
  refine zv_icmp_ge (tgt := 64) G rx4 (zr_k 8 (by decide) (by decide)) (by decide) dX0_letters_9 (fun c1 => ?_) (fun c1 => ?_)
  · have h := h.1 c1
    exact zv_pick [0, 1] rfl (cpC_X0_letters_64 hp G M S hl hk rx1 h)
  · have h := h.2 c1
    refine zv_lload_n G rfl rfl dX0_letters_12 ?_
    refine zv_bipush (a := 8) G (by decide) dX0_letters_13 ?_
    refine zv_iload G rfl dX0_letters_15 ?_
    refine zv_imul G dX0_letters_17 ?_
    refine zv_lshr G dX0_letters_18 ?_
    refine zv_l2i G dX0_letters_19 ?_
    refine zv_sipush (a := 255) G (by decide) dX0_letters_20 ?_
    refine zv_iand G dX0_letters_23 ?_
    refine zv_istoreN G (by decide) dX0_letters_24 (fun x5_9 ex5_9 => ?_)
    have h := h x5_9 ex5_9
    have rx5_9 : zr x5_9 := by rw [ex5_9]; exact (by first | exact i_and_r _ _ | exact i_or_r _ _ | exact i_shl_r _ _ | exact i_shr_r _ _ | exact i_ushr_r _ _ | exact i_b_r _ | exact i_c_r _ | exact i_xor_r _ _ | exact i_div_r _ _ | exact i_rem_r _ _ | exact zr_of _)
    refine zv_iload_n G rfl rfl dX0_letters_26 ?_
    refine zv_iload G rfl dX0_letters_27 ?_
    have kj18 : ∀ v10 : Int, v10 = (if x5_9 = 0 then 1 else 0) → ZV Γ w 37 [(5, ai x5_9), (0, ar p), (1, al x1), (3, ai x3), (4, ai x4)] (ai v10 :: ai x3 :: []) := by
      intro v10 ev10
      have h := h v10 ev10
      have rv10 : zr v10 := by rw [ev10]; exact (zr_ite (zr_k 1 (by decide) (by decide)) (zr_k 0 (by decide) (by decide)))
      have bv10 : v10 = 0 ∨ v10 = 1 := by rw [ev10]; exact (zb_ite (Or.inr rfl) (Or.inl rfl))
      refine zv_ior G dX0_letters_37 ?_
      refine zv_istore_nN G rfl (by decide) dX0_letters_38 (fun x3_11 ex3_11 => ?_)
      have h := h x3_11 ex3_11
      have rx3_11 : zr x3_11 := by rw [ex3_11]; exact (by first | exact i_and_r _ _ | exact i_or_r _ _ | exact i_shl_r _ _ | exact i_shr_r _ _ | exact i_ushr_r _ _ | exact i_b_r _ | exact i_c_r _ | exact i_xor_r _ _ | exact i_div_r _ _ | exact i_rem_r _ _ | exact zr_of _)
      refine zv_iload G rfl dX0_letters_39 ?_
      refine zv_if_eq (tgt := 58) G rx5_9 (by decide) dX0_letters_41 (fun c12 => ?_) (fun c12 => ?_)
      · have h := h.1 c12
        exact zv_pick [0, 1, 3, 4] rfl (cpC_X0_letters_58 hp G M S hl hk hI5 rx1 rx3_11 rx4 h)
      · have h := h.2 c12
        refine zv_iload_n G rfl rfl dX0_letters_44 ?_
        refine zv_if_ne (tgt := 56) G rx3_11 (by decide) dX0_letters_45 (fun c14 => ?_) (fun c14 => ?_)
        · have h := h.2 c14
          exact zv_pick [] rfl (cpC_X0_letters_56 hp G M S hl hk h)
        · have h := h.1 c14
          refine zv_iload G rfl dX0_letters_48 ?_
          refine zv_callI (as := [ai x5_9]) (st := []) G M (zc_eS G q225 q226 q143 q227 md_X0_isSmall rfl dX0_letters_50) (S 7 _ rfl _ _ _ h (zoks_cons rx5_9 zoks_nil)) (Or.inl ⟨rfl, rfl⟩) (zc_hk q227 q143) (by decide) (Nat.le_of_ble_eq_true rfl) (fun v16 u15 rv16 h => ?_) (fun _ _ h => h.elim)
          refine zc_wk G hp (fun hu15 tu15 => ?_)
          refine zv_if_ne (tgt := 58) G rv16 (by decide) dX0_letters_53 (fun c17 => ?_) (fun c17 => ?_)
          · have h := h.2 c17
            exact zv_pick [0, 1, 3, 4] rfl (cpC_X0_letters_58 hp G M S hl hk hI5 rx1 rx3_11 rx4 h)
          · have h := h.1 c17
            exact zv_pick [] rfl (cpC_X0_letters_56 hp G M S hl hk h)
    refine zv_if_ne (tgt := 36) G rx5_9 (by decide) dX0_letters_29 (fun c19 => ?_) (fun c19 => ?_)
    · refine zv_iconst (a := 0) G (by decide) dX0_letters_36 ?_
      exact kj18 _ (if_neg c19).symm
    · refine zv_iconst (a := 1) G (by decide) dX0_letters_32 ?_
      refine zv_goto (tgt := 37) G (by decide) dX0_letters_33 ?_
      exact kj18 _ (if_pos c19).symm
set_option maxHeartbeats 4000000 in
set_option maxRecDepth 100000 in
theorem cpC_X0_letters_0 {Γ : ZG CW} {D : CD} {d p : Nat} (hp : D.K.1 = p) (G : ZOk Γ cX0_letters RX0 6 (KnC D) (ZC D)) (M : ZRm Γ (d + 1) D.lim (Option.some Jvm.ClassFile.FieldType.int) "letters" []) (S : SdC d D p Γ.l) (hl : Γ.l.stackTraces = false) (hk : 0 ≤ d) {x1 : Int} {w : CW} (rx1 : zrl x1) (h : pC_X0_letters_0 p (wpC p d) (fun v w => Γ.Q (.inl (some (ai v))) w) x1 w) : ZV Γ w 0 [(0, ar p), (1, al x1)] [] := by
  refine zc_wk G hp (fun hw tw => ?_)
  refine zv_iconst (a := 0) G (by decide) dX0_letters_0 ?_
  refine zv_istore_n G rfl (by decide) rfl dX0_letters_1 ?_
  refine zv_iconst (a := 0) G (by decide) dX0_letters_2 ?_
  refine zv_istore G (by decide) rfl dX0_letters_3 ?_
  exact zv_pick [0, 1, 3, 4] rfl (cpC_X0_letters_5 hp G M S hl hk rx1 (zr_k 0 (by decide) (by decide)) (zr_k 0 (by decide) (by decide)) h)
set_option maxHeartbeats 4000000 in
set_option maxRecDepth 100000 in
theorem cpC_X0_nothing_31 {Γ : ZG CW} {D : CD} {d p : Nat} (hp : D.K.1 = p) (G : ZOk Γ cX0_nothing RX0 1 (KnC D) (ZC D)) (M : ZRm Γ (d + 1) D.lim (Option.some Jvm.ClassFile.FieldType.int) "nothing" []) (S : SdC d D p Γ.l) (hl : Γ.l.stackTraces = false) (hk : 0 ≤ d) {s0 : Int} {w : CW} (rs0 : zr s0) (h : pC_X0_nothing_31 p (wpC p d) (fun v w => Γ.Q (.inl (some (ai v))) w) s0 w) : ZV Γ w 31 [] [ai s0] := by
  refine zc_wk G hp (fun hw tw => ?_)
  exact zv_iret (ty := .int) rs0 G M rfl dX0_nothing_31 h
set_option maxHeartbeats 4000000 in
set_option maxRecDepth 100000 in
theorem cpC_X0_nothing_0 {Γ : ZG CW} {D : CD} {d p : Nat} (hp : D.K.1 = p) (G : ZOk Γ cX0_nothing RX0 1 (KnC D) (ZC D)) (M : ZRm Γ (d + 1) D.lim (Option.some Jvm.ClassFile.FieldType.int) "nothing" []) (S : SdC d D p Γ.l) (hl : Γ.l.stackTraces = false) (hk : 0 ≤ d) {w : CW} (h : pC_X0_nothing_0 p (wpC p d) (fun v w => Γ.Q (.inl (some (ai v))) w) w) : ZV Γ w 0 [(0, ar p)] [] := by
  refine zc_wk G hp (fun hw tw => ?_)
  refine zv_aload_n G rfl rfl dX0_nothing_0 ?_
  refine zc_get (f := 4) (v := ai (fI w 4 p)) G (hFp tw rfl) rfl q2060 (Or.inl rfl) (cV_I (by decide) (by decide)) dX0_nothing_1 ?_
  refine zv_sipush (a := 160) G (by decide) dX0_nothing_4 ?_
  refine zv_icmp_ne (tgt := 15) G (hw.i 4 _ (by decide)) (zr_k 160 (by decide) (by decide)) (by decide) dX0_nothing_7 (fun c1 => ?_) (fun c1 => ?_)
  · have h := h.2 c1
    refine zv_aload_n G rfl rfl dX0_nothing_15 ?_
    have o3 := h.1
    have h := h.2
    refine zc_new (ci := 28) (t := 29) (n := 2) G M rfl rfl (by decide) rfl q1758 q1759 q190 o3 dX0_nothing_16 (fun u2 eu2 => ?_)
    have h := h u2 eu2
    refine zc_wk G hp (fun hu2 tu2 => ?_)
    refine zv_dup G rfl dX0_nothing_19 ?_
    refine zv_aload_n G rfl rfl dX0_nothing_20 ?_
    refine zc_get (f := 4) (v := ai (fI u2 4 p)) G (hFp tu2 rfl) rfl q2060 (Or.inl rfl) (cV_I (by decide) (by decide)) dX0_nothing_21 ?_
    refine zv_iconst (a := 1) G (by decide) dX0_nothing_24 ?_
    refine zv_callV (as := [ar (cz w + 1), ai (fI u2 4 p), ai 1]) (st := [ar (cz w + 1), ar p]) G M (zc_eI G rfl q1760 q1761 q1762 md_X34_init (Nat.succ_ne_zero _) rfl dX0_nothing_25) (S 196 _ rfl _ _ _ h (zoks_cons trivial (zoks_cons (hu2.i 4 _ (by decide)) (zoks_cons (zr_k 1 (by decide) (by decide)) zoks_nil)))) (Or.inl ⟨rfl, rfl⟩) (zc_hk q1762 q190) (by decide) (Nat.le_of_ble_eq_true rfl) (fun u4 h => ?_) (fun _ _ h => h.elim)
    refine zc_wk G hp (fun hu4 tu4 => ?_)
    refine zv_callI (as := [ar p, ar (cz w + 1)]) (st := []) G M (zc_eV (C := zcn 1) G q1718 q1720 qs56 (Or.inl ⟨rfl, rfl⟩) q1721 md_X0_keep (zc_rc G (zne tu4 tu4.1 (by decide)) tu4.1 (by decide) (by decide) rfl) rfl dX0_nothing_28) (S 58 _ rfl _ _ _ h (zoks_cons trivial (zoks_cons trivial zoks_nil))) (Or.inl ⟨rfl, rfl⟩) (zc_hk q1721 q143) (by decide) (Nat.le_of_ble_eq_true rfl) (fun v7 u6 rv7 h => ?_) (fun _ _ h => h.elim)
    refine zc_wk G hp (fun hu6 tu6 => ?_)
    exact zv_pick [] rfl (cpC_X0_nothing_31 hp G M S hl hk rv7 h)
  · have h := h.1 c1
    refine zv_bipush (a := (-3)) G (by decide) dX0_nothing_10 ?_
    refine zv_goto (tgt := 31) G (by decide) dX0_nothing_12 ?_
    exact zv_pick [] rfl (cpC_X0_nothing_31 hp G M S hl hk (zr_k (-3) (by decide) (by decide)) h)
set_option maxHeartbeats 4000000 in
set_option maxRecDepth 100000 in
theorem cpC_X0_make_28 {Γ : ZG CW} {D : CD} {d p : Nat} (hp : D.K.1 = p) (G : ZOk Γ cX0_make RX0 11 (KnC D) (ZC D)) (M : ZRm Γ (d + 1) D.lim (Option.some Jvm.ClassFile.FieldType.int) "make" []) (S : SdC d D p Γ.l) (hl : Γ.l.stackTraces = false) (hk : 0 ≤ d) {w : CW} (h : pC_X0_make_28 p (wpC p d) (fun v w => Γ.Q (.inl (some (ai v))) w) w) : ZV Γ w 28 [] [] := by
  refine zc_wk G hp (fun hw tw => ?_)
  refine zv_iconst (a := (-1)) G (by decide) dX0_make_28 ?_
  exact zv_iret (ty := .int) (zr_k (-1) (by decide) (by decide)) G M rfl dX0_make_29 h
set_option maxHeartbeats 4000000 in
set_option maxRecDepth 100000 in
theorem cpC_X0_make_203 {Γ : ZG CW} {D : CD} {d p : Nat} (hp : D.K.1 = p) (G : ZOk Γ cX0_make RX0 11 (KnC D) (ZC D)) (M : ZRm Γ (d + 1) D.lim (Option.some Jvm.ClassFile.FieldType.int) "make" []) (S : SdC d D p Γ.l) (hl : Γ.l.stackTraces = false) (hk : 0 ≤ d) {s0 : Int} {w : CW} (rs0 : zr s0) (h : pC_X0_make_203 p (wpC p d) (fun v w => Γ.Q (.inl (some (ai v))) w) s0 w) : ZV Γ w 203 [] [ai s0] := by
  refine zc_wk G hp (fun hw tw => ?_)
  exact zv_iret (ty := .int) rs0 G M rfl dX0_make_203 h
set_option maxHeartbeats 4000000 in
set_option maxRecDepth 100000 in
theorem cpC_X0_make_177 {Γ : ZG CW} {D : CD} {d p : Nat} (hp : D.K.1 = p) (G : ZOk Γ cX0_make RX0 11 (KnC D) (ZC D)) (M : ZRm Γ (d + 1) D.lim (Option.some Jvm.ClassFile.FieldType.int) "make" []) (S : SdC d D p Γ.l) (hl : Γ.l.stackTraces = false) (hk : 0 ≤ d) {w : CW} (h : pC_X0_make_177 p (wpC p d) (fun v w => Γ.Q (.inl (some (ai v))) w) w) : ZV Γ w 177 [] [] := by
  refine zc_wk G hp (fun hw tw => ?_)
  refine zv_bipush (a := (-3)) G (by decide) dX0_make_177 ?_
  refine zv_goto (tgt := 203) G (by decide) dX0_make_179 ?_
  exact zv_pick [] rfl (cpC_X0_make_203 hp G M S hl hk (zr_k (-3) (by decide) (by decide)) h)
set_option maxHeartbeats 4000000 in
set_option maxRecDepth 100000 in
theorem cpC_X0_make_160 {Γ : ZG CW} {D : CD} {d p : Nat} (hp : D.K.1 = p) (G : ZOk Γ cX0_make RX0 11 (KnC D) (ZC D)) (M : ZRm Γ (d + 1) D.lim (Option.some Jvm.ClassFile.FieldType.int) "make" []) (S : SdC d D p Γ.l) (hl : Γ.l.stackTraces = false) (hk : 0 ≤ d) {x6 : Nat} {x8 : Nat} {x9 : Int} {w : CW} (rx9 : zr x9) (h : pC_X0_make_160 p (wpC p d) (fun v w => Γ.Q (.inl (some (ai v))) w) x6 x8 x9 w) : ZV Γ w 160 [(0, ar p), (6, ar x6), (8, ar x8), (9, ai x9)] [] := by
  refine zc_wk G hp (fun hw tw => ?_)
  refine zv_aload_n G rfl rfl dX0_make_160 ?_
  refine zc_get (f := 4) (v := ai (fI w 4 p)) G (hFp tw rfl) rfl q2060 (Or.inl rfl) (cV_I (by decide) (by decide)) dX0_make_161 ?_
  refine zv_sipush (a := 160) G (by decide) dX0_make_164 ?_
  have kt27 : ((fI w 4 p) = 160) ∨ (¬ (x9 ≤ 60)) → ZV Γ w 177 [(0, ar p), (6, ar x6), (8, ar x8), (9, ai x9)] [] := by
    intro c29
    have h := h.1 c29
    exact zv_pick [] rfl (cpC_X0_make_177 hp G M S hl hk h)
  have kf28 : ¬ (((fI w 4 p) = 160) ∨ (¬ (x9 ≤ 60))) → ZV Γ w 182 [(0, ar p), (6, ar x6), (8, ar x8), (9, ai x9)] [] := by
    intro c29
    have h := h.2 c29
    refine zv_aload_n G rfl rfl dX0_make_182 ?_
    have o22 := h.1
    have h := h.2
    refine zc_new (ci := 29) (t := 30) (n := 4) G M rfl rfl (by decide) rfl q1810 q1811 q191 o22 dX0_make_183 (fun u21 eu21 => ?_)
    have h := h u21 eu21
    refine zc_wk G hp (fun hu21 tu21 => ?_)
    refine zv_dup G rfl dX0_make_186 ?_
    refine zv_aload_n G rfl rfl dX0_make_187 ?_
    refine zc_get (f := 4) (v := ai (fI u21 4 p)) G (hFp tu21 rfl) rfl q2060 (Or.inl rfl) (cV_I (by decide) (by decide)) dX0_make_188 ?_
    refine zv_iload G rfl dX0_make_191 ?_
    refine zv_aload G rfl dX0_make_193 ?_
    refine zv_aload G rfl dX0_make_195 ?_
    refine zv_callV (as := [ar (cz w + 1), ai (fI u21 4 p), ai x9, ar x6, ar x8]) (st := [ar (cz w + 1), ar p]) G M (zc_eI G rfl q1812 q1813 q1814 md_X35_init (Nat.succ_ne_zero _) rfl dX0_make_197) (S 201 _ rfl _ _ _ h (zoks_cons trivial (zoks_cons (hu21.i 4 _ (by decide)) (zoks_cons rx9 (zoks_cons trivial (zoks_cons trivial zoks_nil)))))) (Or.inl ⟨rfl, rfl⟩) (zc_hk q1814 q191) (by decide) (Nat.le_of_ble_eq_true rfl) (fun u23 h => ?_) (fun _ _ h => h.elim)
    refine zc_wk G hp (fun hu23 tu23 => ?_)
    refine zv_callI (as := [ar p, ar (cz w + 1)]) (st := []) G M (zc_eV (C := zcn 1) G q1718 q1720 qs56 (Or.inl ⟨rfl, rfl⟩) q1721 md_X0_keep (zc_rc G (zne tu23 tu23.1 (by decide)) tu23.1 (by decide) (by decide) rfl) rfl dX0_make_200) (S 58 _ rfl _ _ _ h (zoks_cons trivial (zoks_cons trivial zoks_nil))) (Or.inl ⟨rfl, rfl⟩) (zc_hk q1721 q143) (by decide) (Nat.le_of_ble_eq_true rfl) (fun v26 u25 rv26 h => ?_) (fun _ _ h => h.elim)
    refine zc_wk G hp (fun hu25 tu25 => ?_)
    exact zv_pick [] rfl (cpC_X0_make_203 hp G M S hl hk rv26 h)
  refine zv_icmp_eq (tgt := 177) G (hw.i 4 _ (by decide)) (zr_k 160 (by decide) (by decide)) (by decide) dX0_make_167 (fun c30 => ?_) (fun c30 => ?_)
  · exact kt27 (Or.inl c30)
  · refine zv_iload G rfl dX0_make_170 ?_
    refine zv_bipush (a := 60) G (by decide) dX0_make_172 ?_
    refine zv_icmp_le (tgt := 182) G rx9 (zr_k 60 (by decide) (by decide)) (by decide) dX0_make_174 (fun c31 => ?_) (fun c31 => ?_)
    · exact kf28 (fun q => q.elim c30 (fun q => q c31))
    · exact kt27 (Or.inr c31)
set_option maxHeartbeats 4000000 in
set_option maxRecDepth 100000 in
theorem cpC_X0_make_124 {Γ : ZG CW} {D : CD} {d p : Nat} (hp : D.K.1 = p) (G : ZOk Γ cX0_make RX0 11 (KnC D) (ZC D)) (M : ZRm Γ (d + 1) D.lim (Option.some Jvm.ClassFile.FieldType.int) "make" []) (S : SdC d D p Γ.l) (hl : Γ.l.stackTraces = false) (hk : 0 ≤ d) {w : CW} (h : pC_X0_make_124 p (wpC p d) (fun v w => Γ.Q (.inl (some (ai v))) w) w) : ZV Γ w 124 [] [] := by
  refine zc_wk G hp (fun hw tw => ?_)
  refine zv_iconst (a := (-1)) G (by decide) dX0_make_124 ?_
  exact zv_iret (ty := .int) (zr_k (-1) (by decide) (by decide)) G M rfl dX0_make_125 h
set_option maxHeartbeats 4000000 in
set_option maxRecDepth 100000 in
theorem cpC_X0_make_77 {Γ : ZG CW} {D : CD} {d p : Nat} (hp : D.K.1 = p) (G : ZOk Γ cX0_make RX0 11 (KnC D) (ZC D)) (M : ZRm Γ (d + 1) D.lim (Option.some Jvm.ClassFile.FieldType.int) "make" []) (S : SdC d D p Γ.l) (hl : Γ.l.stackTraces = false) (hk : 0 ≤ d) {x6 : Nat} {x7 : Nat} {x8 : Nat} {x9 : Int} {x10 : Int} {w : CW} (rx9 : zr x9) (rx10 : zr x10) (h : pC_X0_make_77 p (wpC p d) (fun v w => Γ.Q (.inl (some (ai v))) w) x6 x7 x8 x9 x10 w) : ZV Γ w 77 [(0, ar p), (6, ar x6), (7, ar x7), (8, ar x8), (9, ai x9), (10, ai x10)] [] := by
  obtain ⟨I77, eI77⟩ : ∃ I : Int → Int → CW → Prop, I = (fun x9 x10 w => zr x9 → zr x10 → ZV Γ w 77 [(0, ar p), (6, ar x6), (7, ar x7), (8, ar x8), (9, ai x9), (10, ai x10)] []) := ⟨_, rfl⟩
  have hI77 : ∀ (x9 : Int) (x10 : Int) (w : CW), I77 x9 x10 w → zr x9 → zr x10 → ZV Γ w 77 [(0, ar p), (6, ar x6), (7, ar x7), (8, ar x8), (9, ai x9), (10, ai x10)] [] := by subst eI77; exact fun _ _ _ z => z
  have hJ77 : ∀ (x9 : Int) (x10 : Int) (w : CW), (zr x9 → zr x10 → ZV Γ w 77 [(0, ar p), (6, ar x6), (7, ar x7), (8, ar x8), (9, ai x9), (10, ai x10)] []) → I77 x9 x10 w := by subst eI77; exact fun _ _ _ z => z
  refine hI77 x9 x10 w (h I77 (fun x9 x10 w h => hJ77 x9 x10 w (fun rx9 rx10 => ?_))) rx9 rx10
  refine zc_wk G hp (fun hw tw => ?_)
  refine zv_iload G rfl dX0_make_77 ?_
  refine zv_aload G rfl dX0_make_79 ?_
  have o19 := h.1
  have h := h.2
  refine zc_get (f := 42) (v := ai (fI w 42 x6)) G o19 rfl q694 (Or.inl rfl) (cV_I (by decide) (by decide)) dX0_make_81 ?_
  refine zv_icmp_ge (tgt := 160) G rx10 (hw.i 42 _ (by decide)) (by decide) dX0_make_84 (fun c20 => ?_) (fun c20 => ?_)
  · have h := h.1 c20
    exact zv_pick [0, 6, 8, 9] rfl (cpC_X0_make_160 hp G M S hl hk rx9 h)
  · have h := h.2 c20
    refine zv_aload_n G rfl rfl dX0_make_87 ?_
    refine zv_aload G rfl dX0_make_88 ?_
    refine zv_iload G rfl dX0_make_90 ?_
    have o32 := h.1
    have h := h.2
    refine zc_ialdN G o32.1 rx10 o32.2.1 o32.2.2 dX0_make_92 ?_
    refine zv_callI (as := [ar p, ai (aN w x7 x10)]) (st := []) G M (zc_eV (C := zcn 1) G q1773 q1775 qs57 (Or.inl ⟨rfl, rfl⟩) q1776 md_X0_isValue (zc_rc G (zne tw tw.1 (by decide)) tw.1 (by decide) (by decide) rfl) rfl dX0_make_93) (S 63 _ rfl _ _ _ h (zoks_cons trivial (zoks_cons (aN_r hw _ _) zoks_nil))) (Or.inl ⟨rfl, rfl⟩) (zc_hk q1776 q143) (by decide) (Nat.le_of_ble_eq_true rfl) (fun v34 u33 rv34 h => ?_) (fun _ _ h => h.elim)
    refine zc_wk G hp (fun hu33 tu33 => ?_)
    refine zv_if_eq (tgt := 124) G rv34 (by decide) dX0_make_96 (fun c35 => ?_) (fun c35 => ?_)
    · have h := h.1 c35
      exact zv_pick [] rfl (cpC_X0_make_124 hp G M S hl hk h)
    · have h := h.2 c35
      refine zv_aload_n G rfl rfl dX0_make_99 ?_
      refine zv_aload_n G rfl rfl dX0_make_100 ?_
      refine zc_get (f := 3) (v := ar (fR u33 3 p)) G (hFp tu33 rfl) rfl q2059 (Or.inl rfl) (cV_R rfl) dX0_make_101 ?_
      refine zv_aload G rfl dX0_make_104 ?_
      refine zv_iload G rfl dX0_make_106 ?_
      have o36 := h.1
      have h := h.2
      refine zc_ialdN G o36.1 rx10 o36.2.1 o36.2.2 dX0_make_108 ?_
      have o37 := h.1
      have h := h.2
      refine zc_aald G o37.1 (aN_r hu33 _ _) o37.2.1 o37.2.2 dX0_make_109 ?_
      refine zv_aload G rfl dX0_make_110 ?_
      have o38 := h.1
      have h := h.2
      refine zc_get (f := 41) (v := ar (fR u33 41 x6)) G o38 rfl q693 (Or.inl rfl) (cV_R rfl) dX0_make_112 ?_
      refine zv_iload G rfl dX0_make_115 ?_
      have o39 := h.1
      have h := h.2
      refine zc_ialdN G o39.1 rx10 o39.2.1 o39.2.2 dX0_make_117 ?_
      refine zv_callI (as := [ar p, ar (aR u33 (fR u33 3 p) (aN u33 x7 x10)), ai (aN u33 (fR u33 41 x6) x10)]) (st := []) G M (zc_eV (C := zcn 1) G q1777 q1779 qs58 (Or.inl ⟨rfl, rfl⟩) q1780 md_X0_isOf (zc_rc G (zne tu33 tu33.1 (by decide)) tu33.1 (by decide) (by decide) rfl) rfl dX0_make_118) (S 64 _ rfl _ _ _ h (zoks_cons trivial (zoks_cons trivial (zoks_cons (aN_r hu33 _ _) zoks_nil)))) (Or.inl ⟨rfl, rfl⟩) (zc_hk q1780 q143) (by decide) (Nat.le_of_ble_eq_true rfl) (fun v41 u40 rv41 h => ?_) (fun _ _ h => h.elim)
      refine zc_wk G hp (fun hu40 tu40 => ?_)
      refine zv_if_ne (tgt := 126) G rv41 (by decide) dX0_make_121 (fun c42 => ?_) (fun c42 => ?_)
      · have h := h.2 c42
        refine zv_aload G rfl dX0_make_126 ?_
        refine zv_iload G rfl dX0_make_128 ?_
        refine zv_aload_n G rfl rfl dX0_make_130 ?_
        refine zc_get (f := 3) (v := ar (fR u40 3 p)) G (hFp tu40 rfl) rfl q2059 (Or.inl rfl) (cV_R rfl) dX0_make_131 ?_
        refine zv_aload G rfl dX0_make_134 ?_
        refine zv_iload G rfl dX0_make_136 ?_
        have o43 := h.1
        have h := h.2
        refine zc_ialdN G o43.1 rx10 o43.2.1 o43.2.2 dX0_make_138 ?_
        have o44 := h.1
        have h := h.2
        refine zc_aald G o44.1 (aN_r hu40 _ _) o44.2.1 o44.2.2 dX0_make_139 ?_
        have o46 := h.1
        have h := h.2
        have o47 := h.1
        have h := h.2
        refine zc_aast G o46.1 o47 rx10 o46.2.1 o46.2.2 dX0_make_140 (fun u45 eu45 => ?_)
        have h := h u45 eu45
        refine zc_wk G hp (fun hu45 tu45 => ?_)
        refine zv_iload G rfl dX0_make_141 ?_
        refine zv_aload G rfl dX0_make_143 ?_
        refine zv_iload G rfl dX0_make_145 ?_
        have o48 := h.1
        have h := h.2
        refine zc_aald G o48.1 rx10 o48.2.1 o48.2.2 dX0_make_147 ?_
        have o49 := h.1
        have h := h.2
        refine zc_get (f := 114) (v := ai (fI u45 114 (aR u45 x8 x10))) G o49 rfl q1710 (Or.inl rfl) (cV_I (by decide) (by decide)) dX0_make_148 ?_
        refine zv_iadd G dX0_make_151 ?_
        refine zv_istoreN G (by decide) dX0_make_152 (fun x9_50 ex9_50 => ?_)
        have h := h x9_50 ex9_50
        have rx9_50 : zr x9_50 := by rw [ex9_50]; exact (w32_r _)
        refine zv_iincN G rfl (by decide) dX0_make_154 (fun x10_51 ex10_51 => ?_)
        have h := h x10_51 ex10_51
        have rx10_51 : zr x10_51 := by rw [ex10_51]; exact w32_r _
        refine zv_goto (tgt := 77) G (by decide) dX0_make_157 ?_
        exact zv_pick [0, 6, 7, 8, 9, 10] rfl (hI77 _ _ _ h rx9_50 rx10_51)
      · have h := h.1 c42
        exact zv_pick [] rfl (cpC_X0_make_124 hp G M S hl hk h)
set_option maxHeartbeats 4000000 in
set_option maxRecDepth 100000 in
theorem cpC_X0_make_0 {Γ : ZG CW} {D : CD} {d p : Nat} (hp : D.K.1 = p) (G : ZOk Γ cX0_make RX0 11 (KnC D) (ZC D)) (M : ZRm Γ (d + 1) D.lim (Option.some Jvm.ClassFile.FieldType.int) "make" []) (S : SdC d D p Γ.l) (hl : Γ.l.stackTraces = false) (hk : 0 ≤ d) {x1 : Int} {x2 : Int} {x3 : Int} {x4 : Int} {x5 : Int} {w : CW} (rx1 : zr x1) (rx2 : zr x2) (rx3 : zr x3) (rx4 : zr x4) (rx5 : zr x5) (h : pC_X0_make_0 p (wpC p d) (fun v w => Γ.Q (.inl (some (ai v))) w) x1 x2 x3 x4 x5 w) : ZV Γ w 0 [(0, ar p), (1, ai x1), (2, ai x2), (3, ai x3), (4, ai x4), (5, ai x5)] [] := by
  refine zc_wk G hp (fun hw tw => ?_)
  refine zv_iload_n G rfl rfl dX0_make_0 ?_
  refine zv_i2l G rx1 dX0_make_1 ?_
  refine zv_lconst (a := 0) G (by decide) dX0_make_2 ?_
  refine zv_aload_n G rfl rfl dX0_make_3 ?_
  refine zc_get (f := 1) (v := ai (fI w 1 p)) G (hFp tw rfl) rfl q2055 (Or.inl rfl) (cV_I (by decide) (by decide)) dX0_make_4 ?_
  refine zv_iconst (a := 1) G (by decide) dX0_make_7 ?_
  refine zv_isub G dX0_make_8 ?_
  refine zv_i2l G (w32_r _) dX0_make_9 ?_
  refine zv_callI (as := [al x1, al 0, al (w32 ((fI w 1 p) - 1))]) (st := []) G M (zc_eS G q199 q200 q143 q201 md_X0_isIn rfl dX0_make_10) (S 1 _ rfl _ _ _ h (zoks_cons (zrl_i rx1) (zoks_cons (zrl_k 0 (by decide) (by decide)) (zoks_cons (zrl_i (w32_r _)) zoks_nil)))) (Or.inl ⟨rfl, rfl⟩) (zc_hk q201 q143) (by decide) (Nat.le_of_ble_eq_true rfl) (fun v2 u1 rv2 h => ?_) (fun _ _ h => h.elim)
  refine zc_wk G hp (fun hu1 tu1 => ?_)
  have o3 := h.1
  have h := h.2
  have kt52 : (v2 = 0) ∨ (¬ ((fI u1 40 (aR u1 (fR u1 0 p) x1)) = 0)) → ZV Γ u1 28 [(0, ar p), (1, ai x1), (2, ai x2), (3, ai x3), (4, ai x4), (5, ai x5)] [] := by
    intro c54
    have h := h.1 c54
    exact zv_pick [] rfl (cpC_X0_make_28 hp G M S hl hk h)
  have kf53 : ¬ ((v2 = 0) ∨ (¬ ((fI u1 40 (aR u1 (fR u1 0 p) x1)) = 0))) → ZV Γ u1 30 [(0, ar p), (1, ai x1), (2, ai x2), (3, ai x3), (4, ai x4), (5, ai x5)] [] := by
    intro c54
    have h := h.2 c54
    refine zv_aload_n G rfl rfl dX0_make_30 ?_
    refine zc_get (f := 0) (v := ar (fR u1 0 p)) G (hFp tu1 rfl) rfl q2053 (Or.inl rfl) (cV_R rfl) dX0_make_31 ?_
    refine zv_iload_n G rfl rfl dX0_make_34 ?_
    have o4 := h.1
    have h := h.2
    refine zc_aald G o4.1 rx1 o4.2.1 o4.2.2 dX0_make_35 ?_
    refine zv_astoreN G (by decide) dX0_make_36 (fun x6_5 ex6_5 => ?_)
    have h := h x6_5 ex6_5
    refine zv_iconst (a := 4) G (by decide) dX0_make_38 ?_
    have o7 := h.1
    have h := h.2
    refine zc_newa (t := 102) (ty := .int) G M (by decide) rfl rfl (fun z => z) (by decide) rfl q708 o7.1 o7.2 dX0_make_39 (fun u6 eu6 => ?_)
    have h := h u6 eu6
    refine zc_wk G hp (fun hu6 tu6 => ?_)
    refine zv_dup G rfl dX0_make_41 ?_
    refine zv_iconst (a := 0) G (by decide) dX0_make_42 ?_
    refine zv_iload_n G rfl rfl dX0_make_43 ?_
    have o9 := h.1
    have h := h.2
    refine zc_iast G o9.1 (zr_k 0 (by decide) (by decide)) rx2 o9.2.1 o9.2.2 dX0_make_44 (fun u8 eu8 => ?_)
    have h := h u8 eu8
    refine zc_wk G hp (fun hu8 tu8 => ?_)
    refine zv_dup G rfl dX0_make_45 ?_
    refine zv_iconst (a := 1) G (by decide) dX0_make_46 ?_
    refine zv_iload_n G rfl rfl dX0_make_47 ?_
    have o11 := h.1
    have h := h.2
    refine zc_iast G o11.1 (zr_k 1 (by decide) (by decide)) rx3 o11.2.1 o11.2.2 dX0_make_48 (fun u10 eu10 => ?_)
    have h := h u10 eu10
    refine zc_wk G hp (fun hu10 tu10 => ?_)
    refine zv_dup G rfl dX0_make_49 ?_
    refine zv_iconst (a := 2) G (by decide) dX0_make_50 ?_
    refine zv_iload G rfl dX0_make_51 ?_
    have o13 := h.1
    have h := h.2
    refine zc_iast G o13.1 (zr_k 2 (by decide) (by decide)) rx4 o13.2.1 o13.2.2 dX0_make_53 (fun u12 eu12 => ?_)
    have h := h u12 eu12
    refine zc_wk G hp (fun hu12 tu12 => ?_)
    refine zv_dup G rfl dX0_make_54 ?_
    refine zv_iconst (a := 3) G (by decide) dX0_make_55 ?_
    refine zv_iload G rfl dX0_make_56 ?_
    have o15 := h.1
    have h := h.2
    refine zc_iast G o15.1 (zr_k 3 (by decide) (by decide)) rx5 o15.2.1 o15.2.2 dX0_make_58 (fun u14 eu14 => ?_)
    have h := h u14 eu14
    refine zc_wk G hp (fun hu14 tu14 => ?_)
    refine zv_astore G (by decide) rfl dX0_make_59 ?_
    refine zv_aload G rfl dX0_make_61 ?_
    have o16 := h.1
    have h := h.2
    refine zc_get (f := 42) (v := ai (fI u14 42 x6_5)) G o16 rfl q694 (Or.inl rfl) (cV_I (by decide) (by decide)) dX0_make_63 ?_
    have o18 := h.1
    have h := h.2
    refine zc_anew (t := 119) G M (by decide) q1771 o18.1 o18.2 dX0_make_66 (fun u17 eu17 => ?_)
    have h := h u17 eu17
    refine zc_wk G hp (fun hu17 tu17 => ?_)
    refine zv_astore G (by decide) rfl dX0_make_69 ?_
    refine zv_iconst (a := 1) G (by decide) dX0_make_71 ?_
    refine zv_istore G (by decide) rfl dX0_make_72 ?_
    refine zv_iconst (a := 0) G (by decide) dX0_make_74 ?_
    refine zv_istore G (by decide) rfl dX0_make_75 ?_
    exact zv_pick [0, 6, 7, 8, 9, 10] rfl (cpC_X0_make_77 hp G M S hl hk (zr_k 1 (by decide) (by decide)) (zr_k 0 (by decide) (by decide)) h)
  refine zv_if_eq (tgt := 28) G rv2 (by decide) dX0_make_13 (fun c55 => ?_) (fun c55 => ?_)
  · exact kt52 (Or.inl c55)
  · refine zv_aload_n G rfl rfl dX0_make_16 ?_
    refine zc_get (f := 0) (v := ar (fR u1 0 p)) G (hFp tu1 rfl) rfl q2053 (Or.inl rfl) (cV_R rfl) dX0_make_17 ?_
    refine zv_iload_n G rfl rfl dX0_make_20 ?_
    refine zc_aald G (o3 c55).1.1 rx1 (o3 c55).1.2.1 (o3 c55).1.2.2 dX0_make_21 ?_
    refine zc_get (f := 40) (v := ai (fI u1 40 (aR u1 (fR u1 0 p) x1))) G (o3 c55).2 rfl q690 (Or.inl rfl) (cV_I (by decide) (by decide)) dX0_make_22 ?_
    refine zv_if_eq (tgt := 30) G (hu1.i 40 _ (by decide)) (by decide) dX0_make_25 (fun c56 => ?_) (fun c56 => ?_)
    · exact kf53 (fun q => q.elim c55 (fun q => q c56))
    · exact kt52 (Or.inr c56)
set_option maxHeartbeats 4000000 in
set_option maxRecDepth 100000 in
theorem cpC_X0_isValue_0 {Γ : ZG CW} {D : CD} {d p : Nat} (hp : D.K.1 = p) (G : ZOk Γ cX0_isValue RX0 2 (KnC D) (ZC D)) (M : ZRm Γ (d + 1) D.lim (Option.some Jvm.ClassFile.FieldType.boolean) "isValue" []) (S : SdC d D p Γ.l) (hl : Γ.l.stackTraces = false) (hk : 0 ≤ d) {x1 : Int} {w : CW} (rx1 : zr x1) (h : pC_X0_isValue_0 p (wpC p d) (fun v w => Γ.Q (.inl (some (ai v))) w) x1 w) : ZV Γ w 0 [(0, ar p), (1, ai x1)] [] := by
  refine zc_wk G hp (fun hw tw => ?_)
  refine zv_iload_n G rfl rfl dX0_isValue_0 ?_
  refine zv_i2l G rx1 dX0_isValue_1 ?_
  refine zv_lconst (a := 0) G (by decide) dX0_isValue_2 ?_
  refine zv_aload_n G rfl rfl dX0_isValue_3 ?_
  refine zc_get (f := 4) (v := ai (fI w 4 p)) G (hFp tw rfl) rfl q2060 (Or.inl rfl) (cV_I (by decide) (by decide)) dX0_isValue_4 ?_
  refine zv_iconst (a := 1) G (by decide) dX0_isValue_7 ?_
  refine zv_isub G dX0_isValue_8 ?_
  refine zv_i2l G (w32_r _) dX0_isValue_9 ?_
  refine zv_callI (as := [al x1, al 0, al (w32 ((fI w 4 p) - 1))]) (st := []) G M (zc_eS G q199 q200 q143 q201 md_X0_isIn rfl dX0_isValue_10) (S 1 _ rfl _ _ _ h (zoks_cons (zrl_i rx1) (zoks_cons (zrl_k 0 (by decide) (by decide)) (zoks_cons (zrl_i (w32_r _)) zoks_nil)))) (Or.inl ⟨rfl, rfl⟩) (zc_hk q201 q143) (by decide) (Nat.le_of_ble_eq_true rfl) (fun v2 u1 rv2 h => ?_) (fun _ _ h => h.elim)
  refine zc_wk G hp (fun hu1 tu1 => ?_)
  exact zv_iret (ty := .boolean) rv2 G M (zn_Z h.1) dX0_isValue_13 h.2
set_option maxHeartbeats 4000000 in
set_option maxRecDepth 100000 in
theorem cpC_X0_isOf_53 {Γ : ZG CW} {D : CD} {d p : Nat} (hp : D.K.1 = p) (G : ZOk Γ cX0_isOf RX0 3 (KnC D) (ZC D)) (M : ZRm Γ (d + 1) D.lim (Option.some Jvm.ClassFile.FieldType.boolean) "isOf" []) (S : SdC d D p Γ.l) (hl : Γ.l.stackTraces = false) (hk : 0 ≤ d) {s0 : Int} {w : CW} (rs0 : zr s0) (h : pC_X0_isOf_53 p (wpC p d) (fun v w => Γ.Q (.inl (some (ai v))) w) s0 w) : ZV Γ w 53 [] [ai s0] := by
  refine zc_wk G hp (fun hw tw => ?_)
  exact zv_iret (ty := .boolean) rs0 G M (zn_Z h.1) dX0_isOf_53 h.2
set_option maxHeartbeats 4000000 in
set_option maxRecDepth 100000 in
theorem cpC_X0_isOf_52 {Γ : ZG CW} {D : CD} {d p : Nat} (hp : D.K.1 = p) (G : ZOk Γ cX0_isOf RX0 3 (KnC D) (ZC D)) (M : ZRm Γ (d + 1) D.lim (Option.some Jvm.ClassFile.FieldType.boolean) "isOf" []) (S : SdC d D p Γ.l) (hl : Γ.l.stackTraces = false) (hk : 0 ≤ d) {w : CW} (h : pC_X0_isOf_52 p (wpC p d) (fun v w => Γ.Q (.inl (some (ai v))) w) w) : ZV Γ w 52 [] [] := by
  refine zc_wk G hp (fun hw tw => ?_)
  refine zv_iconst (a := 0) G (by decide) dX0_isOf_52 ?_
  exact zv_pick [] rfl (cpC_X0_isOf_53 hp G M S hl hk (zr_k 0 (by decide) (by decide)) h)
set_option maxHeartbeats 4000000 in
set_option maxRecDepth 100000 in
theorem cpC_X0_isOf_48 {Γ : ZG CW} {D : CD} {d p : Nat} (hp : D.K.1 = p) (G : ZOk Γ cX0_isOf RX0 3 (KnC D) (ZC D)) (M : ZRm Γ (d + 1) D.lim (Option.some Jvm.ClassFile.FieldType.boolean) "isOf" []) (S : SdC d D p Γ.l) (hl : Γ.l.stackTraces = false) (hk : 0 ≤ d) {w : CW} (h : pC_X0_isOf_48 p (wpC p d) (fun v w => Γ.Q (.inl (some (ai v))) w) w) : ZV Γ w 48 [] [] := by
  refine zc_wk G hp (fun hw tw => ?_)
  refine zv_iconst (a := 1) G (by decide) dX0_isOf_48 ?_
  refine zv_goto (tgt := 53) G (by decide) dX0_isOf_49 ?_
  exact zv_pick [] rfl (cpC_X0_isOf_53 hp G M S hl hk (zr_k 1 (by decide) (by decide)) h)
set_option maxHeartbeats 4000000 in
set_option maxRecDepth 100000 in
theorem cpC_X0_isOf_0 {Γ : ZG CW} {D : CD} {d p : Nat} (hp : D.K.1 = p) (G : ZOk Γ cX0_isOf RX0 3 (KnC D) (ZC D)) (M : ZRm Γ (d + 1) D.lim (Option.some Jvm.ClassFile.FieldType.boolean) "isOf" []) (S : SdC d D p Γ.l) (hl : Γ.l.stackTraces = false) (hk : 0 ≤ d) {x1 : Nat} {x2 : Int} {w : CW} (rx2 : zr x2) (h : pC_X0_isOf_0 p (wpC p d) (fun v w => Γ.Q (.inl (some (ai v))) w) x1 x2 w) : ZV Γ w 0 [(0, ar p), (1, ar x1), (2, ai x2)] [] := by
  refine zc_wk G hp (fun hw tw => ?_)
  refine zv_iload_n G rfl rfl dX0_isOf_0 ?_
  refine zv_iconst (a := 3) G (by decide) dX0_isOf_1 ?_
  refine zv_icmp_ge (tgt := 19) G rx2 (zr_k 3 (by decide) (by decide)) (by decide) dX0_isOf_2 (fun c1 => ?_) (fun c1 => ?_)
  · have h := h.1 c1
    refine zv_aload_n G rfl rfl dX0_isOf_19 ?_
    have o2 := h.1
    have h := h.2
    refine zc_inst G q1758 o2 dX0_isOf_20 ?_
    refine zv_bif_eq (tgt := 52) G (by decide) dX0_isOf_23 (fun c3 => ?_) (fun c3 => ?_)
    · have h := h.2 c3
      exact zv_pick [] rfl (cpC_X0_isOf_52 hp G M S hl hk h)
    · have h := h.1 c3
      refine zv_aload_n G rfl rfl dX0_isOf_26 ?_
      have kj21 : ∀ (v5 : Nat) (u4 : CW), (
          (v5 = 0 →
            pC_X0_isOf_48 p (wpC p d) (fun v w => Γ.Q (.inl (some (ai v))) w) u4) ∧
          (¬ (v5 = 0) →
            (wpC p d) (vm4 (tg u4 x1)) [ar x1] u4 (zqR (fun v8 u7 =>
              (wpC p d) 31 [ar p, ai x2] u7 (zqR (fun v10 u9 =>
                (tg u9 v8 = 3) ∧
                (wpC p d) 83 [ar v8, ar v10] u9 (zqI (fun v12 u11 =>
                  (v12 = 0 →
                    pC_X0_isOf_52 p (wpC p d) (fun v w => Γ.Q (.inl (some (ai v))) w) u11) ∧
                  (¬ (v12 = 0) →
                    pC_X0_isOf_48 p (wpC p d) (fun v w => Γ.Q (.inl (some (ai v))) w) u11)) zno)) zno)) zno))) → ZV Γ u4 30 [(0, ar p), (1, ar x1), (2, ai x2)] [ar v5] := by
        intro v5 u4 h
        refine zc_wk G hp (fun hu4 tu4 => ?_)
        refine zv_ifnull (tgt := 48) G (by decide) dX0_isOf_30 (fun c6 => ?_) (fun c6 => ?_)
        · have h := h.1 c6
          exact zv_pick [] rfl (cpC_X0_isOf_48 hp G M S hl hk h)
        · have h := h.2 c6
          refine zv_aload_n G rfl rfl dX0_isOf_33 ?_
          have kj15 : ∀ (v8 : Nat) (u7 : CW), (
              (wpC p d) 31 [ar p, ai x2] u7 (zqR (fun v10 u9 =>
                (tg u9 v8 = 3) ∧
                (wpC p d) 83 [ar v8, ar v10] u9 (zqI (fun v12 u11 =>
                  (v12 = 0 →
                    pC_X0_isOf_52 p (wpC p d) (fun v w => Γ.Q (.inl (some (ai v))) w) u11) ∧
                  (¬ (v12 = 0) →
                    pC_X0_isOf_48 p (wpC p d) (fun v w => Γ.Q (.inl (some (ai v))) w) u11)) zno)) zno)) → ZV Γ u7 37 [(0, ar p), (1, ar x1), (2, ai x2)] [ar v8] := by
            intro v8 u7 h
            refine zc_wk G hp (fun hu7 tu7 => ?_)
            refine zv_aload_n G rfl rfl dX0_isOf_37 ?_
            refine zv_iload_n G rfl rfl dX0_isOf_38 ?_
            refine zv_callR (as := [ar p, ai x2]) (st := [ar v8]) G M (zc_eV (C := zcn 1) G q923 q925 qs26 (Or.inl ⟨rfl, rfl⟩) q926 md_X0_kindOf (zc_rc G (zne tu7 tu7.1 (by decide)) tu7.1 (by decide) (by decide) rfl) rfl dX0_isOf_39) (S 31 _ rfl _ _ _ h (zoks_cons trivial (zoks_cons rx2 zoks_nil))) (Or.inl ⟨rfl, rfl⟩) (zc_hk q926 q143) (by decide) (Nat.le_of_ble_eq_true rfl) (fun v10 u9 h => ?_) (fun _ _ h => h.elim)
            refine zc_wk G hp (fun hu9 tu9 => ?_)
            have o14 := h.1
            have h := h.2
            refine zv_callI (as := [ar v8, ar v10]) (st := []) G M (zc_eV (C := zcn 3) G q927 q928 q929 (Or.inl ⟨rfl, rfl⟩) q930 md_X3_is (zc_rc G (zne tu9 o14 (by decide)) o14 (by decide) (by decide) rfl) rfl dX0_isOf_42) (S 83 _ rfl _ _ _ h (zoks_cons trivial (zoks_cons trivial zoks_nil))) (Or.inl ⟨rfl, rfl⟩) (zc_hk q930 q159) (by decide) (Nat.le_of_ble_eq_true rfl) (fun v12 u11 rv12 h => ?_) (fun _ _ h => h.elim)
            refine zc_wk G hp (fun hu11 tu11 => ?_)
            refine zv_if_eq (tgt := 52) G rv12 (by decide) dX0_isOf_45 (fun c13 => ?_) (fun c13 => ?_)
            · have h := h.1 c13
              exact zv_pick [] rfl (cpC_X0_isOf_52 hp G M S hl hk h)
            · have h := h.2 c13
              exact zv_pick [] rfl (cpC_X0_isOf_48 hp G M S hl hk h)
          have h : wpC p d (vm4 (tg u4 x1)) [ar x1] u4 _ := h
          by_cases c16 : tg u4 x1 = 26
          · have e : vm4 (tg u4 x1) = 184 := by rw [c16]; rfl
            rw [e] at h
            exact zv_callR (as := [ar x1]) (st := []) G M (zc_eV (C := zcn 26) G q1799 q1800 q1808 (Or.inl ⟨rfl, rfl⟩) q1809 md_X30_kind (zc_rc G (zne tu4 c16 (by decide)) c16 (by decide) (by decide) rfl) rfl dX0_isOf_34) (S 184 _ rfl _ _ _ h (zoks_cons trivial zoks_nil)) (Or.inl ⟨rfl, rfl⟩) (zc_hk q1809 q186) (by decide) (Nat.le_of_ble_eq_true rfl) kj15 (fun _ _ h => h.elim)
          by_cases c17 : tg u4 x1 = 27
          · have e : vm4 (tg u4 x1) = 184 := by rw [c17]; rfl
            rw [e] at h
            exact zv_callR (as := [ar x1]) (st := []) G M (zc_eV (C := zcn 27) G q1799 q1800 q1807 (Or.inl ⟨rfl, rfl⟩) q1809 md_X30_kind (zc_rc G (zne tu4 c17 (by decide)) c17 (by decide) (by decide) rfl) rfl dX0_isOf_34) (S 184 _ rfl _ _ _ h (zoks_cons trivial zoks_nil)) (Or.inl ⟨rfl, rfl⟩) (zc_hk q1809 q186) (by decide) (Nat.le_of_ble_eq_true rfl) kj15 (fun _ _ h => h.elim)
          by_cases c18 : tg u4 x1 = 28
          · have e : vm4 (tg u4 x1) = 184 := by rw [c18]; rfl
            rw [e] at h
            exact zv_callR (as := [ar x1]) (st := []) G M (zc_eV (C := zcn 28) G q1799 q1800 q1806 (Or.inl ⟨rfl, rfl⟩) q1809 md_X30_kind (zc_rc G (zne tu4 c18 (by decide)) c18 (by decide) (by decide) rfl) rfl dX0_isOf_34) (S 184 _ rfl _ _ _ h (zoks_cons trivial zoks_nil)) (Or.inl ⟨rfl, rfl⟩) (zc_hk q1809 q186) (by decide) (Nat.le_of_ble_eq_true rfl) kj15 (fun _ _ h => h.elim)
          by_cases c19 : tg u4 x1 = 29
          · have e : vm4 (tg u4 x1) = 184 := by rw [c19]; rfl
            rw [e] at h
            exact zv_callR (as := [ar x1]) (st := []) G M (zc_eV (C := zcn 29) G q1799 q1800 q1805 (Or.inl ⟨rfl, rfl⟩) q1809 md_X30_kind (zc_rc G (zne tu4 c19 (by decide)) c19 (by decide) (by decide) rfl) rfl dX0_isOf_34) (S 184 _ rfl _ _ _ h (zoks_cons trivial zoks_nil)) (Or.inl ⟨rfl, rfl⟩) (zc_hk q1809 q186) (by decide) (Nat.le_of_ble_eq_true rfl) kj15 (fun _ _ h => h.elim)
          by_cases c20 : tg u4 x1 = 30
          · have e : vm4 (tg u4 x1) = 200 := by rw [c20]; rfl
            rw [e] at h
            exact zv_callR (as := [ar x1]) (st := []) G M (zc_eU (C := zcn 30) G q1799 q1801 (zc_declC G q1800 q1809) ⟨by decide, by decide⟩ q1802 q1803 md_X30_kind (zc_rc G (zne tu4 c20 (by decide)) c20 (by decide) (by decide) rfl) rfl dX0_isOf_34) (S 200 _ rfl _ _ _ h (zoks_cons trivial zoks_nil)) (Or.inl ⟨rfl, rfl⟩) (zc_hk q1804 q191) (by decide) (Nat.le_of_ble_eq_true rfl) kj15 (fun _ _ h => h.elim)
          have e : vm4 (tg u4 x1) = 9999 := by unfold vm4; rw [if_neg c16, if_neg c17, if_neg c18, if_neg c19, if_neg c20]
          rw [e] at h
          exact (wpC_none h).elim
      have h : wpC p d (vm4 (tg w x1)) [ar x1] w _ := h
      by_cases c22 : tg w x1 = 26
      · have e : vm4 (tg w x1) = 184 := by rw [c22]; rfl
        rw [e] at h
        exact zv_callR (as := [ar x1]) (st := []) G M (zc_eV (C := zcn 26) G q1799 q1800 q1808 (Or.inl ⟨rfl, rfl⟩) q1809 md_X30_kind (zc_rc G (zne tw c22 (by decide)) c22 (by decide) (by decide) rfl) rfl dX0_isOf_27) (S 184 _ rfl _ _ _ h (zoks_cons trivial zoks_nil)) (Or.inl ⟨rfl, rfl⟩) (zc_hk q1809 q186) (by decide) (Nat.le_of_ble_eq_true rfl) kj21 (fun _ _ h => h.elim)
      by_cases c23 : tg w x1 = 27
      · have e : vm4 (tg w x1) = 184 := by rw [c23]; rfl
        rw [e] at h
        exact zv_callR (as := [ar x1]) (st := []) G M (zc_eV (C := zcn 27) G q1799 q1800 q1807 (Or.inl ⟨rfl, rfl⟩) q1809 md_X30_kind (zc_rc G (zne tw c23 (by decide)) c23 (by decide) (by decide) rfl) rfl dX0_isOf_27) (S 184 _ rfl _ _ _ h (zoks_cons trivial zoks_nil)) (Or.inl ⟨rfl, rfl⟩) (zc_hk q1809 q186) (by decide) (Nat.le_of_ble_eq_true rfl) kj21 (fun _ _ h => h.elim)
      by_cases c24 : tg w x1 = 28
      · have e : vm4 (tg w x1) = 184 := by rw [c24]; rfl
        rw [e] at h
        exact zv_callR (as := [ar x1]) (st := []) G M (zc_eV (C := zcn 28) G q1799 q1800 q1806 (Or.inl ⟨rfl, rfl⟩) q1809 md_X30_kind (zc_rc G (zne tw c24 (by decide)) c24 (by decide) (by decide) rfl) rfl dX0_isOf_27) (S 184 _ rfl _ _ _ h (zoks_cons trivial zoks_nil)) (Or.inl ⟨rfl, rfl⟩) (zc_hk q1809 q186) (by decide) (Nat.le_of_ble_eq_true rfl) kj21 (fun _ _ h => h.elim)
      by_cases c25 : tg w x1 = 29
      · have e : vm4 (tg w x1) = 184 := by rw [c25]; rfl
        rw [e] at h
        exact zv_callR (as := [ar x1]) (st := []) G M (zc_eV (C := zcn 29) G q1799 q1800 q1805 (Or.inl ⟨rfl, rfl⟩) q1809 md_X30_kind (zc_rc G (zne tw c25 (by decide)) c25 (by decide) (by decide) rfl) rfl dX0_isOf_27) (S 184 _ rfl _ _ _ h (zoks_cons trivial zoks_nil)) (Or.inl ⟨rfl, rfl⟩) (zc_hk q1809 q186) (by decide) (Nat.le_of_ble_eq_true rfl) kj21 (fun _ _ h => h.elim)
      by_cases c26 : tg w x1 = 30
      · have e : vm4 (tg w x1) = 200 := by rw [c26]; rfl
        rw [e] at h
        exact zv_callR (as := [ar x1]) (st := []) G M (zc_eU (C := zcn 30) G q1799 q1801 (zc_declC G q1800 q1809) ⟨by decide, by decide⟩ q1802 q1803 md_X30_kind (zc_rc G (zne tw c26 (by decide)) c26 (by decide) (by decide) rfl) rfl dX0_isOf_27) (S 200 _ rfl _ _ _ h (zoks_cons trivial zoks_nil)) (Or.inl ⟨rfl, rfl⟩) (zc_hk q1804 q191) (by decide) (Nat.le_of_ble_eq_true rfl) kj21 (fun _ _ h => h.elim)
      have e : vm4 (tg w x1) = 9999 := by unfold vm4; rw [if_neg c22, if_neg c23, if_neg c24, if_neg c25, if_neg c26]
      rw [e] at h
      exact (wpC_none h).elim
  · have h := h.2 c1
    refine zv_aload_n G rfl rfl dX0_isOf_5 ?_
    have kj32 : ∀ (v28 : Int) (u27 : CW), zr v28 → (
        ∀ v29 : Int, v29 = (if v28 = x2 then 1 else 0) →
        (fun v w => Γ.Q (.inl (some (ai v))) w) v29 u27) → ZV Γ u27 9 [(0, ar p), (1, ar x1), (2, ai x2)] [ai v28] := by
      intro v28 u27 rv28 h
      refine zc_wk G hp (fun hu27 tu27 => ?_)
      refine zv_iload_n G rfl rfl dX0_isOf_9 ?_
      have kj30 : ∀ v29 : Int, v29 = (if v28 = x2 then 1 else 0) → ZV Γ u27 18 [(0, ar p), (1, ar x1), (2, ai x2)] (ai v29 :: []) := by
        intro v29 ev29
        have h := h v29 ev29
        have rv29 : zr v29 := by rw [ev29]; exact (zr_ite (zr_k 1 (by decide) (by decide)) (zr_k 0 (by decide) (by decide)))
        have bv29 : v29 = 0 ∨ v29 = 1 := by rw [ev29]; exact (zb_ite (Or.inr rfl) (Or.inl rfl))
        exact zv_iret (ty := .boolean) rv29 G M (zn_Z bv29) dX0_isOf_18 h
      refine zv_icmp_ne (tgt := 17) G rv28 rx2 (by decide) dX0_isOf_10 (fun c31 => ?_) (fun c31 => ?_)
      · refine zv_iconst (a := 0) G (by decide) dX0_isOf_17 ?_
        exact kj30 _ (if_neg c31).symm
      · refine zv_iconst (a := 1) G (by decide) dX0_isOf_13 ?_
        refine zv_goto (tgt := 18) G (by decide) dX0_isOf_14 ?_
        exact kj30 _ (if_pos c31).symm
    have h : wpC p d (vm5 (tg w x1)) [ar x1] w _ := h
    by_cases c33 : tg w x1 = 26
    · have e : vm5 (tg w x1) = 187 := by rw [c33]; rfl
      rw [e] at h
      exact zv_callI (as := [ar x1]) (st := []) G M (zc_eU (C := zcn 26) G q1781 q1783 (zc_declD G q1782) ⟨by decide, by decide⟩ q1796 q1797 mdx_0 (zc_rc G (zne tw c33 (by decide)) c33 (by decide) (by decide) rfl) rfl dX0_isOf_6) (S 187 _ rfl _ _ _ h (zoks_cons trivial zoks_nil)) (Or.inl ⟨rfl, rfl⟩) (zc_hk q1798 q187) (by decide) (Nat.le_of_ble_eq_true rfl) kj32 (fun _ _ h => h.elim)
    by_cases c34 : tg w x1 = 27
    · have e : vm5 (tg w x1) = 191 := by rw [c34]; rfl
      rw [e] at h
      exact zv_callI (as := [ar x1]) (st := []) G M (zc_eU (C := zcn 27) G q1781 q1783 (zc_declD G q1782) ⟨by decide, by decide⟩ q1793 q1794 mdx_0 (zc_rc G (zne tw c34 (by decide)) c34 (by decide) (by decide) rfl) rfl dX0_isOf_6) (S 191 _ rfl _ _ _ h (zoks_cons trivial zoks_nil)) (Or.inl ⟨rfl, rfl⟩) (zc_hk q1795 q188) (by decide) (Nat.le_of_ble_eq_true rfl) kj32 (fun _ _ h => h.elim)
    by_cases c35 : tg w x1 = 28
    · have e : vm5 (tg w x1) = 193 := by rw [c35]; rfl
      rw [e] at h
      exact zv_callI (as := [ar x1]) (st := []) G M (zc_eU (C := zcn 28) G q1781 q1783 (zc_declD G q1782) ⟨by decide, by decide⟩ q1790 q1791 mdx_0 (zc_rc G (zne tw c35 (by decide)) c35 (by decide) (by decide) rfl) rfl dX0_isOf_6) (S 193 _ rfl _ _ _ h (zoks_cons trivial zoks_nil)) (Or.inl ⟨rfl, rfl⟩) (zc_hk q1792 q189) (by decide) (Nat.le_of_ble_eq_true rfl) kj32 (fun _ _ h => h.elim)
    by_cases c36 : tg w x1 = 29
    · have e : vm5 (tg w x1) = 197 := by rw [c36]; rfl
      rw [e] at h
      exact zv_callI (as := [ar x1]) (st := []) G M (zc_eU (C := zcn 29) G q1781 q1783 (zc_declD G q1782) ⟨by decide, by decide⟩ q1787 q1788 mdx_0 (zc_rc G (zne tw c36 (by decide)) c36 (by decide) (by decide) rfl) rfl dX0_isOf_6) (S 197 _ rfl _ _ _ h (zoks_cons trivial zoks_nil)) (Or.inl ⟨rfl, rfl⟩) (zc_hk q1789 q190) (by decide) (Nat.le_of_ble_eq_true rfl) kj32 (fun _ _ h => h.elim)
    by_cases c37 : tg w x1 = 30
    · have e : vm5 (tg w x1) = 199 := by rw [c37]; rfl
      rw [e] at h
      exact zv_callI (as := [ar x1]) (st := []) G M (zc_eU (C := zcn 30) G q1781 q1783 (zc_declD G q1782) ⟨by decide, by decide⟩ q1784 q1785 mdx_0 (zc_rc G (zne tw c37 (by decide)) c37 (by decide) (by decide) rfl) rfl dX0_isOf_6) (S 199 _ rfl _ _ _ h (zoks_cons trivial zoks_nil)) (Or.inl ⟨rfl, rfl⟩) (zc_hk q1786 q191) (by decide) (Nat.le_of_ble_eq_true rfl) kj32 (fun _ _ h => h.elim)
    have e : vm5 (tg w x1) = 9999 := by unfold vm5; rw [if_neg c33, if_neg c34, if_neg c35, if_neg c36, if_neg c37]
    rw [e] at h
    exact (wpC_none h).elim
set_option maxHeartbeats 4000000 in
set_option maxRecDepth 100000 in
theorem cpC_X0_value_20 {Γ : ZG CW} {D : CD} {d p : Nat} (hp : D.K.1 = p) (G : ZOk Γ cX0_value RX0 4 (KnC D) (ZC D)) (M : ZRm Γ (d + 1) D.lim (Option.some Jvm.ClassFile.FieldType.int) "value" []) (S : SdC d D p Γ.l) (hl : Γ.l.stackTraces = false) (hk : 0 ≤ d) {w : CW} (h : pC_X0_value_20 p (wpC p d) (fun v w => Γ.Q (.inl (some (ai v))) w) w) : ZV Γ w 20 [] [] := by
  refine zc_wk G hp (fun hw tw => ?_)
  refine zv_bipush (a := (-4)) G (by decide) dX0_value_20 ?_
  exact zv_iret (ty := .int) (zr_k (-4) (by decide) (by decide)) G M rfl dX0_value_22 h
set_option maxHeartbeats 4000000 in
set_option maxRecDepth 100000 in
theorem cpC_X0_value_62 {Γ : ZG CW} {D : CD} {d p : Nat} (hp : D.K.1 = p) (G : ZOk Γ cX0_value RX0 4 (KnC D) (ZC D)) (M : ZRm Γ (d + 1) D.lim (Option.some Jvm.ClassFile.FieldType.int) "value" []) (S : SdC d D p Γ.l) (hl : Γ.l.stackTraces = false) (hk : 0 ≤ d) {s0 : Int} {w : CW} (rs0 : zr s0) (h : pC_X0_value_62 p (wpC p d) (fun v w => Γ.Q (.inl (some (ai v))) w) s0 w) : ZV Γ w 62 [] [ai s0] := by
  refine zc_wk G hp (fun hw tw => ?_)
  exact zv_iret (ty := .int) rs0 G M rfl dX0_value_62 h
set_option maxHeartbeats 4000000 in
set_option maxRecDepth 100000 in
theorem cpC_X0_value_0 {Γ : ZG CW} {D : CD} {d p : Nat} (hp : D.K.1 = p) (G : ZOk Γ cX0_value RX0 4 (KnC D) (ZC D)) (M : ZRm Γ (d + 1) D.lim (Option.some Jvm.ClassFile.FieldType.int) "value" []) (S : SdC d D p Γ.l) (hl : Γ.l.stackTraces = false) (hk : 0 ≤ d) {x1 : Int} {x2 : Int} {w : CW} (rx1 : zr x1) (rx2 : zr x2) (h : pC_X0_value_0 p (wpC p d) (fun v w => Γ.Q (.inl (some (ai v))) w) x1 x2 w) : ZV Γ w 0 [(0, ar p), (1, ai x1), (2, ai x2)] [] := by
  refine zc_wk G hp (fun hw tw => ?_)
  refine zv_aload_n G rfl rfl dX0_value_0 ?_
  refine zv_iload_n G rfl rfl dX0_value_1 ?_
  refine zv_callI (as := [ar p, ai x1]) (st := []) G M (zc_eV (C := zcn 1) G q1773 q1775 qs57 (Or.inl ⟨rfl, rfl⟩) q1776 md_X0_isValue (zc_rc G (zne tw tw.1 (by decide)) tw.1 (by decide) (by decide) rfl) rfl dX0_value_2) (S 63 _ rfl _ _ _ h (zoks_cons trivial (zoks_cons rx1 zoks_nil))) (Or.inl ⟨rfl, rfl⟩) (zc_hk q1776 q143) (by decide) (Nat.le_of_ble_eq_true rfl) (fun v2 u1 rv2 h => ?_) (fun _ _ h => h.elim)
  refine zc_wk G hp (fun hu1 tu1 => ?_)
  refine zv_if_eq (tgt := 20) G rv2 (by decide) dX0_value_5 (fun c3 => ?_) (fun c3 => ?_)
  · have h := h.1 c3
    exact zv_pick [] rfl (cpC_X0_value_20 hp G M S hl hk h)
  · have h := h.2 c3
    refine zv_iload_n G rfl rfl dX0_value_8 ?_
    refine zv_i2l G rx2 dX0_value_9 ?_
    refine zv_lconst (a := 0) G (by decide) dX0_value_10 ?_
    refine zv_ldc2 (a := 6) G (G.kn.2.1 _ q1832 _) (by decide) dX0_value_11 ?_
    refine zv_callI (as := [al x2, al 0, al 6]) (st := []) G M (zc_eS G q199 q200 q143 q201 md_X0_isIn rfl dX0_value_14) (S 1 _ rfl _ _ _ h (zoks_cons (zrl_i rx2) (zoks_cons (zrl_k 0 (by decide) (by decide)) (zoks_cons (zrl_k 6 (by decide) (by decide)) zoks_nil)))) (Or.inl ⟨rfl, rfl⟩) (zc_hk q201 q143) (by decide) (Nat.le_of_ble_eq_true rfl) (fun v5 u4 rv5 h => ?_) (fun _ _ h => h.elim)
    refine zc_wk G hp (fun hu4 tu4 => ?_)
    refine zv_if_ne (tgt := 23) G rv5 (by decide) dX0_value_17 (fun c6 => ?_) (fun c6 => ?_)
    · have h := h.2 c6
      refine zv_aload_n G rfl rfl dX0_value_23 ?_
      refine zc_get (f := 3) (v := ar (fR u4 3 p)) G (hFp tu4 rfl) rfl q2059 (Or.inl rfl) (cV_R rfl) dX0_value_24 ?_
      refine zv_iload_n G rfl rfl dX0_value_27 ?_
      have o7 := h.1
      have h := h.2
      refine zc_aald G o7.1 rx1 o7.2.1 o7.2.2 dX0_value_28 ?_
      refine zv_astore_nN G rfl (by decide) dX0_value_29 (fun x3_8 ex3_8 => ?_)
      have h := h x3_8 ex3_8
      refine zv_iload_n G rfl rfl dX0_value_30 ?_
      refine zv_iconst (a := 3) G (by decide) dX0_value_31 ?_
      refine zv_icmp_ge (tgt := 63) G rx2 (zr_k 3 (by decide) (by decide)) (by decide) dX0_value_32 (fun c9 => ?_) (fun c9 => ?_)
      · have h := h.1 c9
        refine zv_aload_n G rfl rfl dX0_value_63 ?_
        have o10 := h.1
        have h := h.2
        refine zc_inst G q1810 o10 dX0_value_64 ?_
        have o12 := h.1
        have h := h.2
        have kj13 : ∀ v11 : Int, v11 = (if (zca (tg u4 x3_8) "LetterPost$Letter" = true) ∧ (¬ (((ln u4 (fR u4 118 x3_8) : Nat) : Int) ≤ (w32 (x2 - 3)))) then fI u4 113 (aR u4 (fR u4 118 x3_8) (w32 (x2 - 3))) else (-4)) → ZV Γ u4 103 [(3, ar x3_8), (0, ar p), (1, ai x1), (2, ai x2)] (ai v11 :: []) := by
          intro v11 ev11
          have h := h v11 ev11
          have rv11 : zr v11 := by rw [ev11]; exact (zr_ite (hu4.i 113 _ (by decide)) (zr_k (-4) (by decide) (by decide)))
          exact zv_iret (ty := .int) rv11 G M rfl dX0_value_103 h
        refine zv_bif_eq (tgt := 101) G (by decide) dX0_value_67 (fun c14 => ?_) (fun c14 => ?_)
        · refine zv_bipush (a := (-4)) G (by decide) dX0_value_101 ?_
          exact kj13 _ (if_neg (fun q => c14 q.1)).symm
        · refine zv_iload_n G rfl rfl dX0_value_70 ?_
          refine zv_iconst (a := 3) G (by decide) dX0_value_71 ?_
          refine zv_isub G dX0_value_72 ?_
          refine zv_aload_n G rfl rfl dX0_value_73 ?_
          refine zc_cast G q1810 (o12 c14).1 dX0_value_74 ?_
          refine zc_get (f := 118) (v := ar (fR u4 118 x3_8)) G (o12 c14).2.1 rfl q1820 (Or.inl rfl) (cV_R rfl) dX0_value_77 ?_
          refine zc_alen G (o12 c14).2.2.1 dX0_value_80 ?_
          refine zv_icmp_ge (tgt := 101) G (w32_r _) (zc_lnr hu4 _) (by decide) dX0_value_81 (fun c15 => ?_) (fun c15 => ?_)
          · refine zv_bipush (a := (-4)) G (by decide) dX0_value_101 ?_
            exact kj13 _ (if_neg (fun q => (fun q => q c15) q.2)).symm
          · refine zv_aload_n G rfl rfl dX0_value_84 ?_
            refine zc_cast G q1810 ((o12 c14).2.2.2 c15).1 dX0_value_85 ?_
            refine zc_get (f := 118) (v := ar (fR u4 118 x3_8)) G ((o12 c14).2.2.2 c15).2.1 rfl q1820 (Or.inl rfl) (cV_R rfl) dX0_value_88 ?_
            refine zv_iload_n G rfl rfl dX0_value_91 ?_
            refine zv_iconst (a := 3) G (by decide) dX0_value_92 ?_
            refine zv_isub G dX0_value_93 ?_
            refine zc_aald G ((o12 c14).2.2.2 c15).2.2.1.1 (w32_r _) ((o12 c14).2.2.2 c15).2.2.1.2.1 ((o12 c14).2.2.2 c15).2.2.1.2.2 dX0_value_94 ?_
            refine zc_get (f := 113) (v := ai (fI u4 113 (aR u4 (fR u4 118 x3_8) (w32 (x2 - 3))))) G ((o12 c14).2.2.2 c15).2.2.2 rfl q1708 (Or.inl rfl) (cV_I (by decide) (by decide)) dX0_value_95 ?_
            refine zv_goto (tgt := 103) G (by decide) dX0_value_98 ?_
            exact kj13 _ (if_pos ⟨c14, c15⟩).symm
      · have h := h.2 c9
        refine zv_iload_n G rfl rfl dX0_value_35 ?_
        refine zv_if_ne (tgt := 46) G rx2 (by decide) dX0_value_36 (fun c16 => ?_) (fun c16 => ?_)
        · have h := h.2 c16
          refine zv_iload_n G rfl rfl dX0_value_46 ?_
          refine zv_iconst (a := 1) G (by decide) dX0_value_47 ?_
          refine zv_icmp_ne (tgt := 58) G rx2 (zr_k 1 (by decide) (by decide)) (by decide) dX0_value_48 (fun c17 => ?_) (fun c17 => ?_)
          · have h := h.2 c17
            refine zv_aload_n G rfl rfl dX0_value_58 ?_
            have o18 := h.1
            have h := h.2
            refine zc_get (f := 114) (v := ai (fI u4 114 x3_8)) G o18 rfl q1710 (Or.inl rfl) (cV_I (by decide) (by decide)) dX0_value_59 ?_
            exact zv_pick [] rfl (cpC_X0_value_62 hp G M S hl hk (hu4.i 114 _ (by decide)) h)
          · have h := h.1 c17
            refine zv_aload_n G rfl rfl dX0_value_51 ?_
            have kj21 : ∀ (v20 : Int) (u19 : CW), zr v20 → (
                pC_X0_value_62 p (wpC p d) (fun v w => Γ.Q (.inl (some (ai v))) w) v20 u19) → ZV Γ u19 55 [(3, ar x3_8), (0, ar p), (1, ai x1), (2, ai x2)] [ai v20] := by
              intro v20 u19 rv20 h
              refine zc_wk G hp (fun hu19 tu19 => ?_)
              refine zv_goto (tgt := 62) G (by decide) dX0_value_55 ?_
              exact zv_pick [] rfl (cpC_X0_value_62 hp G M S hl hk rv20 h)
            have h : wpC p d (vm6 (tg u4 x3_8)) [ar x3_8] u4 _ := h
            by_cases c22 : tg u4 x3_8 = 26
            · have e : vm6 (tg u4 x3_8) = 188 := by rw [c22]; rfl
              rw [e] at h
              exact zv_callI (as := [ar x3_8]) (st := []) G M (zc_eU (C := zcn 26) G q1833 q1835 (zc_declC G q1834 q1847) ⟨by decide, by decide⟩ q1846 q1844 md_X30_told (zc_rc G (zne tu4 c22 (by decide)) c22 (by decide) (by decide) rfl) rfl dX0_value_52) (S 188 _ rfl _ _ _ h (zoks_cons trivial zoks_nil)) (Or.inl ⟨rfl, rfl⟩) (zc_hk q1845 q187) (by decide) (Nat.le_of_ble_eq_true rfl) kj21 (fun _ _ h => h.elim)
            by_cases c23 : tg u4 x3_8 = 27
            · have e : vm6 (tg u4 x3_8) = 188 := by rw [c23]; rfl
              rw [e] at h
              exact zv_callI (as := [ar x3_8]) (st := []) G M (zc_eU (C := zcn 27) G q1833 q1835 (zc_declC G q1834 q1847) ⟨by decide, by decide⟩ q1843 q1844 md_X30_told (zc_rc G (zne tu4 c23 (by decide)) c23 (by decide) (by decide) rfl) rfl dX0_value_52) (S 188 _ rfl _ _ _ h (zoks_cons trivial zoks_nil)) (Or.inl ⟨rfl, rfl⟩) (zc_hk q1845 q187) (by decide) (Nat.le_of_ble_eq_true rfl) kj21 (fun _ _ h => h.elim)
            by_cases c24 : tg u4 x3_8 = 28
            · have e : vm6 (tg u4 x3_8) = 194 := by rw [c24]; rfl
              rw [e] at h
              exact zv_callI (as := [ar x3_8]) (st := []) G M (zc_eU (C := zcn 28) G q1833 q1835 (zc_declC G q1834 q1847) ⟨by decide, by decide⟩ q1840 q1841 md_X30_told (zc_rc G (zne tu4 c24 (by decide)) c24 (by decide) (by decide) rfl) rfl dX0_value_52) (S 194 _ rfl _ _ _ h (zoks_cons trivial zoks_nil)) (Or.inl ⟨rfl, rfl⟩) (zc_hk q1842 q189) (by decide) (Nat.le_of_ble_eq_true rfl) kj21 (fun _ _ h => h.elim)
            by_cases c25 : tg u4 x3_8 = 29
            · have e : vm6 (tg u4 x3_8) = 185 := by rw [c25]; rfl
              rw [e] at h
              exact zv_callI (as := [ar x3_8]) (st := []) G M (zc_eV (C := zcn 29) G q1833 q1834 q1839 (Or.inl ⟨rfl, rfl⟩) q1847 md_X30_told (zc_rc G (zne tu4 c25 (by decide)) c25 (by decide) (by decide) rfl) rfl dX0_value_52) (S 185 _ rfl _ _ _ h (zoks_cons trivial zoks_nil)) (Or.inl ⟨rfl, rfl⟩) (zc_hk q1847 q186) (by decide) (Nat.le_of_ble_eq_true rfl) kj21 (fun _ _ h => h.elim)
            by_cases c26 : tg u4 x3_8 = 30
            · have e : vm6 (tg u4 x3_8) = 202 := by rw [c26]; rfl
              rw [e] at h
              exact zv_callI (as := [ar x3_8]) (st := []) G M (zc_eU (C := zcn 30) G q1833 q1835 (zc_declC G q1834 q1847) ⟨by decide, by decide⟩ q1836 q1837 md_X30_told (zc_rc G (zne tu4 c26 (by decide)) c26 (by decide) (by decide) rfl) rfl dX0_value_52) (S 202 _ rfl _ _ _ h (zoks_cons trivial zoks_nil)) (Or.inl ⟨rfl, rfl⟩) (zc_hk q1838 q191) (by decide) (Nat.le_of_ble_eq_true rfl) kj21 (fun _ _ h => h.elim)
            have e : vm6 (tg u4 x3_8) = 9999 := by unfold vm6; rw [if_neg c22, if_neg c23, if_neg c24, if_neg c25, if_neg c26]
            rw [e] at h
            exact (wpC_none h).elim
        · have h := h.1 c16
          refine zv_aload_n G rfl rfl dX0_value_39 ?_
          have kj29 : ∀ (v28 : Int) (u27 : CW), zr v28 → (
              pC_X0_value_62 p (wpC p d) (fun v w => Γ.Q (.inl (some (ai v))) w) v28 u27) → ZV Γ u27 43 [(3, ar x3_8), (0, ar p), (1, ai x1), (2, ai x2)] [ai v28] := by
            intro v28 u27 rv28 h
            refine zc_wk G hp (fun hu27 tu27 => ?_)
            refine zv_goto (tgt := 62) G (by decide) dX0_value_43 ?_
            exact zv_pick [] rfl (cpC_X0_value_62 hp G M S hl hk rv28 h)
          have h : wpC p d (vm5 (tg u4 x3_8)) [ar x3_8] u4 _ := h
          by_cases c30 : tg u4 x3_8 = 26
          · have e : vm5 (tg u4 x3_8) = 187 := by rw [c30]; rfl
            rw [e] at h
            exact zv_callI (as := [ar x3_8]) (st := []) G M (zc_eU (C := zcn 26) G q1781 q1783 (zc_declD G q1782) ⟨by decide, by decide⟩ q1796 q1797 mdx_0 (zc_rc G (zne tu4 c30 (by decide)) c30 (by decide) (by decide) rfl) rfl dX0_value_40) (S 187 _ rfl _ _ _ h (zoks_cons trivial zoks_nil)) (Or.inl ⟨rfl, rfl⟩) (zc_hk q1798 q187) (by decide) (Nat.le_of_ble_eq_true rfl) kj29 (fun _ _ h => h.elim)
          by_cases c31 : tg u4 x3_8 = 27
          · have e : vm5 (tg u4 x3_8) = 191 := by rw [c31]; rfl
            rw [e] at h
            exact zv_callI (as := [ar x3_8]) (st := []) G M (zc_eU (C := zcn 27) G q1781 q1783 (zc_declD G q1782) ⟨by decide, by decide⟩ q1793 q1794 mdx_0 (zc_rc G (zne tu4 c31 (by decide)) c31 (by decide) (by decide) rfl) rfl dX0_value_40) (S 191 _ rfl _ _ _ h (zoks_cons trivial zoks_nil)) (Or.inl ⟨rfl, rfl⟩) (zc_hk q1795 q188) (by decide) (Nat.le_of_ble_eq_true rfl) kj29 (fun _ _ h => h.elim)
          by_cases c32 : tg u4 x3_8 = 28
          · have e : vm5 (tg u4 x3_8) = 193 := by rw [c32]; rfl
            rw [e] at h
            exact zv_callI (as := [ar x3_8]) (st := []) G M (zc_eU (C := zcn 28) G q1781 q1783 (zc_declD G q1782) ⟨by decide, by decide⟩ q1790 q1791 mdx_0 (zc_rc G (zne tu4 c32 (by decide)) c32 (by decide) (by decide) rfl) rfl dX0_value_40) (S 193 _ rfl _ _ _ h (zoks_cons trivial zoks_nil)) (Or.inl ⟨rfl, rfl⟩) (zc_hk q1792 q189) (by decide) (Nat.le_of_ble_eq_true rfl) kj29 (fun _ _ h => h.elim)
          by_cases c33 : tg u4 x3_8 = 29
          · have e : vm5 (tg u4 x3_8) = 197 := by rw [c33]; rfl
            rw [e] at h
            exact zv_callI (as := [ar x3_8]) (st := []) G M (zc_eU (C := zcn 29) G q1781 q1783 (zc_declD G q1782) ⟨by decide, by decide⟩ q1787 q1788 mdx_0 (zc_rc G (zne tu4 c33 (by decide)) c33 (by decide) (by decide) rfl) rfl dX0_value_40) (S 197 _ rfl _ _ _ h (zoks_cons trivial zoks_nil)) (Or.inl ⟨rfl, rfl⟩) (zc_hk q1789 q190) (by decide) (Nat.le_of_ble_eq_true rfl) kj29 (fun _ _ h => h.elim)
          by_cases c34 : tg u4 x3_8 = 30
          · have e : vm5 (tg u4 x3_8) = 199 := by rw [c34]; rfl
            rw [e] at h
            exact zv_callI (as := [ar x3_8]) (st := []) G M (zc_eU (C := zcn 30) G q1781 q1783 (zc_declD G q1782) ⟨by decide, by decide⟩ q1784 q1785 mdx_0 (zc_rc G (zne tu4 c34 (by decide)) c34 (by decide) (by decide) rfl) rfl dX0_value_40) (S 199 _ rfl _ _ _ h (zoks_cons trivial zoks_nil)) (Or.inl ⟨rfl, rfl⟩) (zc_hk q1786 q191) (by decide) (Nat.le_of_ble_eq_true rfl) kj29 (fun _ _ h => h.elim)
          have e : vm5 (tg u4 x3_8) = 9999 := by unfold vm5; rw [if_neg c30, if_neg c31, if_neg c32, if_neg c33, if_neg c34]
          rw [e] at h
          exact (wpC_none h).elim
    · have h := h.1 c6
      exact zv_pick [] rfl (cpC_X0_value_20 hp G M S hl hk h)
set_option maxHeartbeats 4000000 in
set_option maxRecDepth 100000 in
theorem cpC_X0_alike_43 {Γ : ZG CW} {D : CD} {d p : Nat} (hp : D.K.1 = p) (G : ZOk Γ cX0_alike RX0 3 (KnC D) (ZC D)) (M : ZRm Γ (d + 1) D.lim (Option.some Jvm.ClassFile.FieldType.int) "alike" []) (S : SdC d D p Γ.l) (hl : Γ.l.stackTraces = false) (hk : 0 ≤ d) {s0 : Int} {w : CW} (rs0 : zr s0) (h : pC_X0_alike_43 p (wpC p d) (fun v w => Γ.Q (.inl (some (ai v))) w) s0 w) : ZV Γ w 43 [] [ai s0] := by
  refine zc_wk G hp (fun hw tw => ?_)
  exact zv_iret (ty := .int) rs0 G M rfl dX0_alike_43 h
set_option maxHeartbeats 4000000 in
set_option maxRecDepth 100000 in
theorem cpC_X0_alike_16 {Γ : ZG CW} {D : CD} {d p : Nat} (hp : D.K.1 = p) (G : ZOk Γ cX0_alike RX0 3 (KnC D) (ZC D)) (M : ZRm Γ (d + 1) D.lim (Option.some Jvm.ClassFile.FieldType.int) "alike" []) (S : SdC d D p Γ.l) (hl : Γ.l.stackTraces = false) (hk : 0 ≤ d) {w : CW} (h : pC_X0_alike_16 p (wpC p d) (fun v w => Γ.Q (.inl (some (ai v))) w) w) : ZV Γ w 16 [] [] := by
  refine zc_wk G hp (fun hw tw => ?_)
  refine zv_iconst (a := (-1)) G (by decide) dX0_alike_16 ?_
  refine zv_goto (tgt := 43) G (by decide) dX0_alike_17 ?_
  exact zv_pick [] rfl (cpC_X0_alike_43 hp G M S hl hk (zr_k (-1) (by decide) (by decide)) h)
set_option maxHeartbeats 4000000 in
set_option maxRecDepth 100000 in
theorem cpC_X0_alike_0 {Γ : ZG CW} {D : CD} {d p : Nat} (hp : D.K.1 = p) (G : ZOk Γ cX0_alike RX0 3 (KnC D) (ZC D)) (M : ZRm Γ (d + 1) D.lim (Option.some Jvm.ClassFile.FieldType.int) "alike" []) (S : SdC d D p Γ.l) (hl : Γ.l.stackTraces = false) (hk : 0 ≤ d) {x1 : Int} {x2 : Int} {w : CW} (rx1 : zr x1) (rx2 : zr x2) (h : pC_X0_alike_0 p (wpC p d) (fun v w => Γ.Q (.inl (some (ai v))) w) x1 x2 w) : ZV Γ w 0 [(0, ar p), (1, ai x1), (2, ai x2)] [] := by
  refine zc_wk G hp (fun hw tw => ?_)
  refine zv_aload_n G rfl rfl dX0_alike_0 ?_
  refine zv_iload_n G rfl rfl dX0_alike_1 ?_
  refine zv_callI (as := [ar p, ai x1]) (st := []) G M (zc_eV (C := zcn 1) G q1773 q1775 qs57 (Or.inl ⟨rfl, rfl⟩) q1776 md_X0_isValue (zc_rc G (zne tw tw.1 (by decide)) tw.1 (by decide) (by decide) rfl) rfl dX0_alike_2) (S 63 _ rfl _ _ _ h (zoks_cons trivial (zoks_cons rx1 zoks_nil))) (Or.inl ⟨rfl, rfl⟩) (zc_hk q1776 q143) (by decide) (Nat.le_of_ble_eq_true rfl) (fun v2 u1 rv2 h => ?_) (fun _ _ h => h.elim)
  refine zc_wk G hp (fun hu1 tu1 => ?_)
  refine zv_if_eq (tgt := 16) G rv2 (by decide) dX0_alike_5 (fun c3 => ?_) (fun c3 => ?_)
  · have h := h.1 c3
    exact zv_pick [] rfl (cpC_X0_alike_16 hp G M S hl hk h)
  · have h := h.2 c3
    refine zv_aload_n G rfl rfl dX0_alike_8 ?_
    refine zv_iload_n G rfl rfl dX0_alike_9 ?_
    refine zv_callI (as := [ar p, ai x2]) (st := []) G M (zc_eV (C := zcn 1) G q1773 q1775 qs57 (Or.inl ⟨rfl, rfl⟩) q1776 md_X0_isValue (zc_rc G (zne tu1 tu1.1 (by decide)) tu1.1 (by decide) (by decide) rfl) rfl dX0_alike_10) (S 63 _ rfl _ _ _ h (zoks_cons trivial (zoks_cons rx2 zoks_nil))) (Or.inl ⟨rfl, rfl⟩) (zc_hk q1776 q143) (by decide) (Nat.le_of_ble_eq_true rfl) (fun v5 u4 rv5 h => ?_) (fun _ _ h => h.elim)
    refine zc_wk G hp (fun hu4 tu4 => ?_)
    refine zv_if_ne (tgt := 20) G rv5 (by decide) dX0_alike_13 (fun c6 => ?_) (fun c6 => ?_)
    · have h := h.2 c6
      refine zv_aload_n G rfl rfl dX0_alike_20 ?_
      refine zc_get (f := 3) (v := ar (fR u4 3 p)) G (hFp tu4 rfl) rfl q2059 (Or.inl rfl) (cV_R rfl) dX0_alike_21 ?_
      refine zv_iload_n G rfl rfl dX0_alike_24 ?_
      have o7 := h.1
      have h := h.2
      refine zc_aald G o7.1 rx1 o7.2.1 o7.2.2 dX0_alike_25 ?_
      refine zv_aload_n G rfl rfl dX0_alike_26 ?_
      refine zc_get (f := 3) (v := ar (fR u4 3 p)) G (hFp tu4 rfl) rfl q2059 (Or.inl rfl) (cV_R rfl) dX0_alike_27 ?_
      refine zv_iload_n G rfl rfl dX0_alike_30 ?_
      have o8 := h.1
      have h := h.2
      refine zc_aald G o8.1 rx2 o8.2.1 o8.2.2 dX0_alike_31 ?_
      have kj12 : ∀ (v10 : Int) (u9 : CW), zr v10 → (
          (v10 = 0 →
            pC_X0_alike_43 p (wpC p d) (fun v w => Γ.Q (.inl (some (ai v))) w) 0 u9) ∧
          (¬ (v10 = 0) →
            pC_X0_alike_43 p (wpC p d) (fun v w => Γ.Q (.inl (some (ai v))) w) 1 u9)) → ZV Γ u9 35 [(0, ar p), (1, ai x1), (2, ai x2)] [ai v10] := by
        intro v10 u9 rv10 h
        refine zc_wk G hp (fun hu9 tu9 => ?_)
        refine zv_if_eq (tgt := 42) G rv10 (by decide) dX0_alike_35 (fun c11 => ?_) (fun c11 => ?_)
        · have h := h.1 c11
          refine zv_iconst (a := 0) G (by decide) dX0_alike_42 ?_
          exact zv_pick [] rfl (cpC_X0_alike_43 hp G M S hl hk (zr_k 0 (by decide) (by decide)) h)
        · have h := h.2 c11
          refine zv_iconst (a := 1) G (by decide) dX0_alike_38 ?_
          refine zv_goto (tgt := 43) G (by decide) dX0_alike_39 ?_
          exact zv_pick [] rfl (cpC_X0_alike_43 hp G M S hl hk (zr_k 1 (by decide) (by decide)) h)
      have h : wpC p d (vm7 (tg u4 (aR u4 (fR u4 3 p) x1))) [ar (aR u4 (fR u4 3 p) x1), ar (aR u4 (fR u4 3 p) x2)] u4 _ := h
      by_cases c13 : tg u4 (aR u4 (fR u4 3 p) x1) = 26
      · have e : vm7 (tg u4 (aR u4 (fR u4 3 p) x1)) = 189 := by rw [c13]; rfl
        rw [e] at h
        exact zv_callI (as := [ar (aR u4 (fR u4 3 p) x1), ar (aR u4 (fR u4 3 p) x2)]) (st := []) G M (zc_eU (C := zcn 26) G q1852 q1854 (zc_declD G q1853) ⟨by decide, by decide⟩ q1877 q1869 mdx_1 (zc_rc G (zne tu4 c13 (by decide)) c13 (by decide) (by decide) rfl) rfl dX0_alike_32) (S 189 _ rfl _ _ _ h (zoks_cons trivial (zoks_cons trivial zoks_nil))) (Or.inl ⟨rfl, rfl⟩) (zc_hk q1870 q187) (by decide) (Nat.le_of_ble_eq_true rfl) kj12 (fun _ _ h => h.elim)
      by_cases c14 : tg u4 (aR u4 (fR u4 3 p) x1) = 27
      · have e : vm7 (tg u4 (aR u4 (fR u4 3 p) x1)) = 189 := by rw [c14]; rfl
        rw [e] at h
        exact zv_callI (as := [ar (aR u4 (fR u4 3 p) x1), ar (aR u4 (fR u4 3 p) x2)]) (st := []) G M (zc_eU (C := zcn 27) G q1852 q1854 (zc_declD G q1853) ⟨by decide, by decide⟩ q1876 q1869 mdx_1 (zc_rc G (zne tu4 c14 (by decide)) c14 (by decide) (by decide) rfl) rfl dX0_alike_32) (S 189 _ rfl _ _ _ h (zoks_cons trivial (zoks_cons trivial zoks_nil))) (Or.inl ⟨rfl, rfl⟩) (zc_hk q1870 q187) (by decide) (Nat.le_of_ble_eq_true rfl) kj12 (fun _ _ h => h.elim)
      by_cases c15 : tg u4 (aR u4 (fR u4 3 p) x1) = 28
      · have e : vm7 (tg u4 (aR u4 (fR u4 3 p) x1)) = 195 := by rw [c15]; rfl
        rw [e] at h
        exact zv_callI (as := [ar (aR u4 (fR u4 3 p) x1), ar (aR u4 (fR u4 3 p) x2)]) (st := []) G M (zc_eU (C := zcn 28) G q1852 q1854 (zc_declD G q1853) ⟨by decide, by decide⟩ q1875 q1866 mdx_1 (zc_rc G (zne tu4 c15 (by decide)) c15 (by decide) (by decide) rfl) rfl dX0_alike_32) (S 195 _ rfl _ _ _ h (zoks_cons trivial (zoks_cons trivial zoks_nil))) (Or.inl ⟨rfl, rfl⟩) (zc_hk q1867 q189) (by decide) (Nat.le_of_ble_eq_true rfl) kj12 (fun _ _ h => h.elim)
      by_cases c16 : tg u4 (aR u4 (fR u4 3 p) x1) = 29
      · have e : vm7 (tg u4 (aR u4 (fR u4 3 p) x1)) = 198 := by rw [c16]; rfl
        rw [e] at h
        exact zv_callI (as := [ar (aR u4 (fR u4 3 p) x1), ar (aR u4 (fR u4 3 p) x2)]) (st := []) G M (zc_eU (C := zcn 29) G q1852 q1854 (zc_declD G q1853) ⟨by decide, by decide⟩ q1874 q1859 mdx_1 (zc_rc G (zne tu4 c16 (by decide)) c16 (by decide) (by decide) rfl) rfl dX0_alike_32) (S 198 _ rfl _ _ _ h (zoks_cons trivial (zoks_cons trivial zoks_nil))) (Or.inl ⟨rfl, rfl⟩) (zc_hk q1860 q190) (by decide) (Nat.le_of_ble_eq_true rfl) kj12 (fun _ _ h => h.elim)
      by_cases c17 : tg u4 (aR u4 (fR u4 3 p) x1) = 30
      · have e : vm7 (tg u4 (aR u4 (fR u4 3 p) x1)) = 203 := by rw [c17]; rfl
        rw [e] at h
        exact zv_callI (as := [ar (aR u4 (fR u4 3 p) x1), ar (aR u4 (fR u4 3 p) x2)]) (st := []) G M (zc_eU (C := zcn 30) G q1852 q1854 (zc_declD G q1853) ⟨by decide, by decide⟩ q1855 q1856 mdx_1 (zc_rc G (zne tu4 c17 (by decide)) c17 (by decide) (by decide) rfl) rfl dX0_alike_32) (S 203 _ rfl _ _ _ h (zoks_cons trivial (zoks_cons trivial zoks_nil))) (Or.inl ⟨rfl, rfl⟩) (zc_hk q1857 q191) (by decide) (Nat.le_of_ble_eq_true rfl) kj12 (fun _ _ h => h.elim)
      have e : vm7 (tg u4 (aR u4 (fR u4 3 p) x1)) = 9999 := by unfold vm7; rw [if_neg c13, if_neg c14, if_neg c15, if_neg c16, if_neg c17]
      rw [e] at h
      exact (wpC_none h).elim
    · have h := h.1 c6
      exact zv_pick [] rfl (cpC_X0_alike_16 hp G M S hl hk h)
set_option maxHeartbeats 4000000 in
set_option maxRecDepth 100000 in
theorem cpC_X0_sort_0 {Γ : ZG CW} {D : CD} {d p : Nat} (hp : D.K.1 = p) (G : ZOk Γ cX0_sort RX0 5 (KnC D) (ZC D)) (M : ZRm Γ (d + 1) D.lim (Option.some Jvm.ClassFile.FieldType.int) "sort" []) (S : SdC d D p Γ.l) (hl : Γ.l.stackTraces = false) (hk : 0 ≤ d) {x1 : Int} {x2 : Int} {x3 : Int} {x4 : Int} {w : CW} (rx1 : zr x1) (rx2 : zr x2) (rx3 : zr x3) (rx4 : zr x4) (h : pC_X0_sort_0 p (wpC p d) (fun v w => Γ.Q (.inl (some (ai v))) w) x1 x2 x3 x4 w) : ZV Γ w 0 [(0, ar p), (1, ai x1), (2, ai x2), (3, ai x3), (4, ai x4)] [] := by
  refine zc_wk G hp (fun hw tw => ?_)
  refine zv_aload_n G rfl rfl dX0_sort_0 ?_
  refine zv_iload_n G rfl rfl dX0_sort_1 ?_
  refine zv_iload_n G rfl rfl dX0_sort_2 ?_
  refine zv_iload_n G rfl rfl dX0_sort_3 ?_
  refine zv_iload G rfl dX0_sort_4 ?_
  refine zv_iconst (a := 1) G (by decide) dX0_sort_6 ?_
  refine zv_callI (as := [ar p, ai x1, ai x2, ai x3, ai x4, ai 1]) (st := []) G M (zc_eV (C := zcn 1) G q1882 q1884 qs59 (Or.inl ⟨rfl, rfl⟩) q1885 md_X0_sorts (zc_rc G (zne tw tw.1 (by decide)) tw.1 (by decide) (by decide) rfl) rfl dX0_sort_7) (S 68 _ rfl _ _ _ h (zoks_cons trivial (zoks_cons rx1 (zoks_cons rx2 (zoks_cons rx3 (zoks_cons rx4 (zoks_cons (zr_k 1 (by decide) (by decide)) zoks_nil))))))) (Or.inl ⟨rfl, rfl⟩) (zc_hk q1885 q143) (by decide) (Nat.le_of_ble_eq_true rfl) (fun v2 u1 rv2 h => ?_) (fun _ _ h => h.elim)
  refine zc_wk G hp (fun hu1 tu1 => ?_)
  exact zv_iret (ty := .int) rv2 G M rfl dX0_sort_10 h
set_option maxHeartbeats 4000000 in
set_option maxRecDepth 100000 in
theorem cpC_X0_sorts_115 {Γ : ZG CW} {D : CD} {d p : Nat} (hp : D.K.1 = p) (G : ZOk Γ cX0_sorts RX0 9 (KnC D) (ZC D)) (M : ZRm Γ (d + 1) D.lim (Option.some Jvm.ClassFile.FieldType.int) "sorts" []) (S : SdC d D p Γ.l) (hl : Γ.l.stackTraces = false) (hk : 0 ≤ d) {x1 : Int} {x5 : Int} {x7 : Nat} {w : CW} (rx1 : zr x1) (rx5 : zr x5) (h : pC_X0_sorts_115 p (wpC p d) (fun v w => Γ.Q (.inl (some (ai v))) w) x1 x5 x7 w) : ZV Γ w 115 [(0, ar p), (1, ai x1), (5, ai x5), (7, ar x7)] [] := by
  refine zc_wk G hp (fun hw tw => ?_)
  refine zv_aload_n G rfl rfl dX0_sorts_115 ?_
  refine zv_aload_n G rfl rfl dX0_sorts_116 ?_
  refine zc_get (f := 5) (v := ar (fR w 5 p)) G (hFp tw rfl) rfl q2061 (Or.inl rfl) (cV_R rfl) dX0_sorts_117 ?_
  refine zv_iload_n G rfl rfl dX0_sorts_120 ?_
  have o17 := h.1
  have h := h.2
  refine zc_aald G o17.1 rx1 o17.2.1 o17.2.2 dX0_sorts_121 ?_
  refine zv_aload G rfl dX0_sorts_122 ?_
  refine zv_iload G rfl dX0_sorts_124 ?_
  refine zv_callI (as := [ar p, ar (aR w (fR w 5 p) x1), ar x7, ai x5]) (st := []) G M (zc_eV (C := zcn 1) G q1886 q1888 qs60 (Or.inl ⟨rfl, rfl⟩) q1889 md_X0_run (zc_rc G (zne tw tw.1 (by decide)) tw.1 (by decide) (by decide) rfl) rfl dX0_sorts_126) (S 69 _ rfl _ _ _ h (zoks_cons trivial (zoks_cons trivial (zoks_cons trivial (zoks_cons rx5 zoks_nil))))) (Or.inl ⟨rfl, rfl⟩) (zc_hk q1889 q143) (by decide) (Nat.le_of_ble_eq_true rfl) (fun v19 u18 rv19 h => ?_) (fun _ _ h => h.elim)
  refine zc_wk G hp (fun hu18 tu18 => ?_)
  exact zv_iret (ty := .int) rv19 G M rfl dX0_sorts_129 h
set_option maxHeartbeats 4000000 in
set_option maxRecDepth 100000 in
theorem cpC_X0_sorts_92 {Γ : ZG CW} {D : CD} {d p : Nat} (hp : D.K.1 = p) (G : ZOk Γ cX0_sorts RX0 9 (KnC D) (ZC D)) (M : ZRm Γ (d + 1) D.lim (Option.some Jvm.ClassFile.FieldType.int) "sorts" []) (S : SdC d D p Γ.l) (hl : Γ.l.stackTraces = false) (hk : 0 ≤ d) {w : CW} (h : pC_X0_sorts_92 p (wpC p d) (fun v w => Γ.Q (.inl (some (ai v))) w) w) : ZV Γ w 92 [] [] := by
  refine zc_wk G hp (fun hw tw => ?_)
  refine zv_iconst (a := (-1)) G (by decide) dX0_sorts_92 ?_
  exact zv_iret (ty := .int) (zr_k (-1) (by decide) (by decide)) G M rfl dX0_sorts_93 h
set_option maxHeartbeats 4000000 in
set_option maxRecDepth 100000 in
theorem cpC_X0_sorts_37 {Γ : ZG CW} {D : CD} {d p : Nat} (hp : D.K.1 = p) (G : ZOk Γ cX0_sorts RX0 9 (KnC D) (ZC D)) (M : ZRm Γ (d + 1) D.lim (Option.some Jvm.ClassFile.FieldType.int) "sorts" []) (S : SdC d D p Γ.l) (hl : Γ.l.stackTraces = false) (hk : 0 ≤ d) {x1 : Int} {x5 : Int} {x6 : Nat} {x7 : Nat} {x8 : Int} {w : CW} (rx1 : zr x1) (rx5 : zr x5) (rx8 : zr x8) (h : pC_X0_sorts_37 p (wpC p d) (fun v w => Γ.Q (.inl (some (ai v))) w) x1 x5 x6 x7 x8 w) : ZV Γ w 37 [(0, ar p), (1, ai x1), (5, ai x5), (6, ar x6), (7, ar x7), (8, ai x8)] [] := by
  obtain ⟨I37, eI37⟩ : ∃ I : Int → CW → Prop, I = (fun x8 w => zr x8 → ZV Γ w 37 [(0, ar p), (1, ai x1), (5, ai x5), (6, ar x6), (7, ar x7), (8, ai x8)] []) := ⟨_, rfl⟩
  have hI37 : ∀ (x8 : Int) (w : CW), I37 x8 w → zr x8 → ZV Γ w 37 [(0, ar p), (1, ai x1), (5, ai x5), (6, ar x6), (7, ar x7), (8, ai x8)] [] := by subst eI37; exact fun _ _ z => z
  have hJ37 : ∀ (x8 : Int) (w : CW), (zr x8 → ZV Γ w 37 [(0, ar p), (1, ai x1), (5, ai x5), (6, ar x6), (7, ar x7), (8, ai x8)] []) → I37 x8 w := by subst eI37; exact fun _ _ z => z
  refine hI37 x8 w (h I37 (fun x8 w h => hJ37 x8 w (fun rx8 => ?_))) rx8
  refine zc_wk G hp (fun hw tw => ?_)
  refine zv_iload G rfl dX0_sorts_37 ?_
  refine zv_aload_n G rfl rfl dX0_sorts_39 ?_
  refine zc_get (f := 5) (v := ar (fR w 5 p)) G (hFp tw rfl) rfl q2061 (Or.inl rfl) (cV_R rfl) dX0_sorts_40 ?_
  refine zv_iload_n G rfl rfl dX0_sorts_43 ?_
  have o14 := h.1
  have h := h.2
  refine zc_aald G o14.1 rx1 o14.2.1 o14.2.2 dX0_sorts_44 ?_
  have o15 := h.1
  have h := h.2
  refine zc_get (f := 46) (v := ai (fI w 46 (aR w (fR w 5 p) x1))) G o15 rfl q750 (Or.inl rfl) (cV_I (by decide) (by decide)) dX0_sorts_45 ?_
  refine zv_icmp_ge (tgt := 115) G rx8 (hw.i 46 _ (by decide)) (by decide) dX0_sorts_48 (fun c16 => ?_) (fun c16 => ?_)
  · have h := h.1 c16
    exact zv_pick [0, 1, 5, 7] rfl (cpC_X0_sorts_115 hp G M S hl hk rx1 rx5 h)
  · have h := h.2 c16
    refine zv_aload_n G rfl rfl dX0_sorts_51 ?_
    refine zv_aload G rfl dX0_sorts_52 ?_
    refine zv_iload G rfl dX0_sorts_54 ?_
    have o20 := h.1
    have h := h.2
    refine zc_ialdN G o20.1 rx8 o20.2.1 o20.2.2 dX0_sorts_56 ?_
    refine zv_callI (as := [ar p, ai (aN w x6 x8)]) (st := []) G M (zc_eV (C := zcn 1) G q1773 q1775 qs57 (Or.inl ⟨rfl, rfl⟩) q1776 md_X0_isValue (zc_rc G (zne tw tw.1 (by decide)) tw.1 (by decide) (by decide) rfl) rfl dX0_sorts_57) (S 63 _ rfl _ _ _ h (zoks_cons trivial (zoks_cons (aN_r hw _ _) zoks_nil))) (Or.inl ⟨rfl, rfl⟩) (zc_hk q1776 q143) (by decide) (Nat.le_of_ble_eq_true rfl) (fun v22 u21 rv22 h => ?_) (fun _ _ h => h.elim)
    refine zc_wk G hp (fun hu21 tu21 => ?_)
    refine zv_if_eq (tgt := 92) G rv22 (by decide) dX0_sorts_60 (fun c23 => ?_) (fun c23 => ?_)
    · have h := h.1 c23
      exact zv_pick [] rfl (cpC_X0_sorts_92 hp G M S hl hk h)
    · have h := h.2 c23
      refine zv_aload_n G rfl rfl dX0_sorts_63 ?_
      refine zv_aload_n G rfl rfl dX0_sorts_64 ?_
      refine zc_get (f := 3) (v := ar (fR u21 3 p)) G (hFp tu21 rfl) rfl q2059 (Or.inl rfl) (cV_R rfl) dX0_sorts_65 ?_
      refine zv_aload G rfl dX0_sorts_68 ?_
      refine zv_iload G rfl dX0_sorts_70 ?_
      have o24 := h.1
      have h := h.2
      refine zc_ialdN G o24.1 rx8 o24.2.1 o24.2.2 dX0_sorts_72 ?_
      have o25 := h.1
      have h := h.2
      refine zc_aald G o25.1 (aN_r hu21 _ _) o25.2.1 o25.2.2 dX0_sorts_73 ?_
      refine zv_aload_n G rfl rfl dX0_sorts_74 ?_
      refine zc_get (f := 5) (v := ar (fR u21 5 p)) G (hFp tu21 rfl) rfl q2061 (Or.inl rfl) (cV_R rfl) dX0_sorts_75 ?_
      refine zv_iload_n G rfl rfl dX0_sorts_78 ?_
      have o26 := h.1
      have h := h.2
      refine zc_aald G o26.1 rx1 o26.2.1 o26.2.2 dX0_sorts_79 ?_
      have o27 := h.1
      have h := h.2
      refine zc_get (f := 45) (v := ar (fR u21 45 (aR u21 (fR u21 5 p) x1))) G o27 rfl q748 (Or.inl rfl) (cV_R rfl) dX0_sorts_80 ?_
      refine zv_iload G rfl dX0_sorts_83 ?_
      have o28 := h.1
      have h := h.2
      refine zc_ialdN G o28.1 rx8 o28.2.1 o28.2.2 dX0_sorts_85 ?_
      refine zv_callI (as := [ar p, ar (aR u21 (fR u21 3 p) (aN u21 x6 x8)), ai (aN u21 (fR u21 45 (aR u21 (fR u21 5 p) x1)) x8)]) (st := []) G M (zc_eV (C := zcn 1) G q1777 q1779 qs58 (Or.inl ⟨rfl, rfl⟩) q1780 md_X0_isOf (zc_rc G (zne tu21 tu21.1 (by decide)) tu21.1 (by decide) (by decide) rfl) rfl dX0_sorts_86) (S 64 _ rfl _ _ _ h (zoks_cons trivial (zoks_cons trivial (zoks_cons (aN_r hu21 _ _) zoks_nil)))) (Or.inl ⟨rfl, rfl⟩) (zc_hk q1780 q143) (by decide) (Nat.le_of_ble_eq_true rfl) (fun v30 u29 rv30 h => ?_) (fun _ _ h => h.elim)
      refine zc_wk G hp (fun hu29 tu29 => ?_)
      refine zv_if_ne (tgt := 94) G rv30 (by decide) dX0_sorts_89 (fun c31 => ?_) (fun c31 => ?_)
      · have h := h.2 c31
        refine zv_aload G rfl dX0_sorts_94 ?_
        refine zv_iload G rfl dX0_sorts_96 ?_
        refine zv_aload_n G rfl rfl dX0_sorts_98 ?_
        refine zc_get (f := 3) (v := ar (fR u29 3 p)) G (hFp tu29 rfl) rfl q2059 (Or.inl rfl) (cV_R rfl) dX0_sorts_99 ?_
        refine zv_aload G rfl dX0_sorts_102 ?_
        refine zv_iload G rfl dX0_sorts_104 ?_
        have o32 := h.1
        have h := h.2
        refine zc_ialdN G o32.1 rx8 o32.2.1 o32.2.2 dX0_sorts_106 ?_
        have o33 := h.1
        have h := h.2
        refine zc_aald G o33.1 (aN_r hu29 _ _) o33.2.1 o33.2.2 dX0_sorts_107 ?_
        have o35 := h.1
        have h := h.2
        have o36 := h.1
        have h := h.2
        refine zc_aast G o35.1 o36 rx8 o35.2.1 o35.2.2 dX0_sorts_108 (fun u34 eu34 => ?_)
        have h := h u34 eu34
        refine zc_wk G hp (fun hu34 tu34 => ?_)
        refine zv_iincN G rfl (by decide) dX0_sorts_109 (fun x8_37 ex8_37 => ?_)
        have h := h x8_37 ex8_37
        have rx8_37 : zr x8_37 := by rw [ex8_37]; exact w32_r _
        refine zv_goto (tgt := 37) G (by decide) dX0_sorts_112 ?_
        exact zv_pick [0, 1, 5, 6, 7, 8] rfl (hI37 _ _ h rx8_37)
      · have h := h.1 c31
        exact zv_pick [] rfl (cpC_X0_sorts_92 hp G M S hl hk h)
set_option maxHeartbeats 4000000 in
set_option maxRecDepth 100000 in
theorem cpC_X0_sorts_0 {Γ : ZG CW} {D : CD} {d p : Nat} (hp : D.K.1 = p) (G : ZOk Γ cX0_sorts RX0 9 (KnC D) (ZC D)) (M : ZRm Γ (d + 1) D.lim (Option.some Jvm.ClassFile.FieldType.int) "sorts" []) (S : SdC d D p Γ.l) (hl : Γ.l.stackTraces = false) (hk : 0 ≤ d) {x1 : Int} {x2 : Int} {x3 : Int} {x4 : Int} {x5 : Int} {w : CW} (rx1 : zr x1) (rx2 : zr x2) (rx3 : zr x3) (rx4 : zr x4) (rx5 : zr x5) (h : pC_X0_sorts_0 p (wpC p d) (fun v w => Γ.Q (.inl (some (ai v))) w) x1 x2 x3 x4 x5 w) : ZV Γ w 0 [(0, ar p), (1, ai x1), (2, ai x2), (3, ai x3), (4, ai x4), (5, ai x5)] [] := by
  refine zc_wk G hp (fun hw tw => ?_)
  refine zv_aload_n G rfl rfl dX0_sorts_0 ?_
  refine zv_iload_n G rfl rfl dX0_sorts_1 ?_
  refine zv_callI (as := [ar p, ai x1]) (st := []) G M (zc_eV (C := zcn 1) G q1551 q1553 qs54 (Or.inl ⟨rfl, rfl⟩) q1554 md_X0_isFunction (zc_rc G (zne tw tw.1 (by decide)) tw.1 (by decide) (by decide) rfl) rfl dX0_sorts_2) (S 48 _ rfl _ _ _ h (zoks_cons trivial (zoks_cons rx1 zoks_nil))) (Or.inl ⟨rfl, rfl⟩) (zc_hk q1554 q143) (by decide) (Nat.le_of_ble_eq_true rfl) (fun v2 u1 rv2 h => ?_) (fun _ _ h => h.elim)
  refine zc_wk G hp (fun hu1 tu1 => ?_)
  refine zv_if_ne (tgt := 10) G rv2 (by decide) dX0_sorts_5 (fun c3 => ?_) (fun c3 => ?_)
  · have h := h.2 c3
    refine zv_iconst (a := 3) G (by decide) dX0_sorts_10 ?_
    have o5 := h.1
    have h := h.2
    refine zc_newa (t := 102) (ty := .int) G M (by decide) rfl rfl (fun z => z) (by decide) rfl q708 o5.1 o5.2 dX0_sorts_11 (fun u4 eu4 => ?_)
    have h := h u4 eu4
    refine zc_wk G hp (fun hu4 tu4 => ?_)
    refine zv_dup G rfl dX0_sorts_13 ?_
    refine zv_iconst (a := 0) G (by decide) dX0_sorts_14 ?_
    refine zv_iload_n G rfl rfl dX0_sorts_15 ?_
    have o7 := h.1
    have h := h.2
    refine zc_iast G o7.1 (zr_k 0 (by decide) (by decide)) rx2 o7.2.1 o7.2.2 dX0_sorts_16 (fun u6 eu6 => ?_)
    have h := h u6 eu6
    refine zc_wk G hp (fun hu6 tu6 => ?_)
    refine zv_dup G rfl dX0_sorts_17 ?_
    refine zv_iconst (a := 1) G (by decide) dX0_sorts_18 ?_
    refine zv_iload_n G rfl rfl dX0_sorts_19 ?_
    have o9 := h.1
    have h := h.2
    refine zc_iast G o9.1 (zr_k 1 (by decide) (by decide)) rx3 o9.2.1 o9.2.2 dX0_sorts_20 (fun u8 eu8 => ?_)
    have h := h u8 eu8
    refine zc_wk G hp (fun hu8 tu8 => ?_)
    refine zv_dup G rfl dX0_sorts_21 ?_
    refine zv_iconst (a := 2) G (by decide) dX0_sorts_22 ?_
    refine zv_iload G rfl dX0_sorts_23 ?_
    have o11 := h.1
    have h := h.2
    refine zc_iast G o11.1 (zr_k 2 (by decide) (by decide)) rx4 o11.2.1 o11.2.2 dX0_sorts_25 (fun u10 eu10 => ?_)
    have h := h u10 eu10
    refine zc_wk G hp (fun hu10 tu10 => ?_)
    refine zv_astore G (by decide) rfl dX0_sorts_26 ?_
    refine zv_iconst (a := 3) G (by decide) dX0_sorts_28 ?_
    have o13 := h.1
    have h := h.2
    refine zc_anew (t := 119) G M (by decide) q1771 o13.1 o13.2 dX0_sorts_29 (fun u12 eu12 => ?_)
    have h := h u12 eu12
    refine zc_wk G hp (fun hu12 tu12 => ?_)
    refine zv_astore G (by decide) rfl dX0_sorts_32 ?_
    refine zv_iconst (a := 0) G (by decide) dX0_sorts_34 ?_
    refine zv_istore G (by decide) rfl dX0_sorts_35 ?_
    exact zv_pick [0, 1, 5, 6, 7, 8] rfl (cpC_X0_sorts_37 hp G M S hl hk rx1 rx5 (zr_k 0 (by decide) (by decide)) h)
  · have h := h.1 c3
    refine zv_iconst (a := (-1)) G (by decide) dX0_sorts_8 ?_
    exact zv_iret (ty := .int) (zr_k (-1) (by decide) (by decide)) G M rfl dX0_sorts_9 h
set_option maxHeartbeats 4000000 in
set_option maxRecDepth 100000 in
theorem cpC_X0_run_263 {Γ : ZG CW} {D : CD} {d p : Nat} (hp : D.K.1 = p) (G : ZOk Γ cX0_run RX0 9 (KnC D) (ZC D)) (M : ZRm Γ (d + 1) D.lim (Option.some Jvm.ClassFile.FieldType.int) "run" []) (S : SdC d D p Γ.l) (hl : Γ.l.stackTraces = false) (hk : 0 ≤ d) {I37 : Nat → Nat → CW → Prop} {x3 : Int} {x5 : Nat} {x7 : Nat} {w : CW} (hI37 : ∀ (x4 : Nat) (x5 : Nat) (w : CW), I37 x4 x5 w → ZV Γ w 37 [(0, ar p), (3, ai x3), (4, ar x4), (5, ar x5)] []) (rx3 : zr x3) (h : pC_X0_run_263 p (wpC p d) (fun v w => Γ.Q (.inl (some (ai v))) w) I37 x3 x5 x7 w) : ZV Γ w 263 [(0, ar p), (3, ai x3), (5, ar x5), (7, ar x7)] [] := by
  refine zc_wk G hp (fun hw tw => ?_)
  refine zv_aload G rfl dX0_run_263 ?_
  have o29 := h.1
  have h := h.2
  refine zc_get (f := 66) (v := ar (fR w 66 x7)) G o29 rfl q820 (Or.inl rfl) (cV_R rfl) dX0_run_265 ?_
  refine zv_astoreN G (by decide) dX0_run_268 (fun x4_30 ex4_30 => ?_)
  have h := h x4_30 ex4_30
  refine zv_goto (tgt := 37) G (by decide) dX0_run_270 ?_
  exact zv_pick [0, 3, 4, 5] rfl (hI37 _ _ _ h )
set_option maxHeartbeats 4000000 in
set_option maxRecDepth 100000 in
theorem cpC_X0_run_230 {Γ : ZG CW} {D : CD} {d p : Nat} (hp : D.K.1 = p) (G : ZOk Γ cX0_run RX0 9 (KnC D) (ZC D)) (M : ZRm Γ (d + 1) D.lim (Option.some Jvm.ClassFile.FieldType.int) "run" []) (S : SdC d D p Γ.l) (hl : Γ.l.stackTraces = false) (hk : 0 ≤ d) {I37 : Nat → Nat → CW → Prop} {x3 : Int} {x5 : Nat} {x6 : Nat} {x7 : Nat} {x8 : Int} {w : CW} (hI37 : ∀ (x4 : Nat) (x5 : Nat) (w : CW), I37 x4 x5 w → ZV Γ w 37 [(0, ar p), (3, ai x3), (4, ar x4), (5, ar x5)] []) (rx3 : zr x3) (rx8 : zr x8) (h : pC_X0_run_230 p (wpC p d) (fun v w => Γ.Q (.inl (some (ai v))) w) I37 x3 x5 x6 x7 x8 w) : ZV Γ w 230 [(0, ar p), (3, ai x3), (5, ar x5), (6, ar x6), (7, ar x7), (8, ai x8)] [] := by
  obtain ⟨I230, eI230⟩ : ∃ I : Int → CW → Prop, I = (fun x8 w => zr x8 → ZV Γ w 230 [(0, ar p), (3, ai x3), (5, ar x5), (6, ar x6), (7, ar x7), (8, ai x8)] []) := ⟨_, rfl⟩
  have hI230 : ∀ (x8 : Int) (w : CW), I230 x8 w → zr x8 → ZV Γ w 230 [(0, ar p), (3, ai x3), (5, ar x5), (6, ar x6), (7, ar x7), (8, ai x8)] [] := by subst eI230; exact fun _ _ z => z
  have hJ230 : ∀ (x8 : Int) (w : CW), (zr x8 → ZV Γ w 230 [(0, ar p), (3, ai x3), (5, ar x5), (6, ar x6), (7, ar x7), (8, ai x8)] []) → I230 x8 w := by subst eI230; exact fun _ _ z => z
  refine hI230 x8 w (h I230 (fun x8 w h => hJ230 x8 w (fun rx8 => ?_))) rx8
  refine zc_wk G hp (fun hw tw => ?_)
  refine zv_iload G rfl dX0_run_230 ?_
  refine zv_aload G rfl dX0_run_232 ?_
  have o26 := h.1
  have h := h.2
  refine zc_get (f := 62) (v := ar (fR w 62 x7)) G o26 rfl q816 (Or.inl rfl) (cV_R rfl) dX0_run_234 ?_
  have o27 := h.1
  have h := h.2
  refine zc_alen G o27 dX0_run_237 ?_
  refine zv_icmp_ge (tgt := 263) G rx8 (zc_lnr hw _) (by decide) dX0_run_238 (fun c28 => ?_) (fun c28 => ?_)
  · have h := h.1 c28
    exact zv_pick [0, 3, 5, 7] rfl (cpC_X0_run_263 hp G M S hl hk hI37 rx3 h)
  · have h := h.2 c28
    refine zv_aload G rfl dX0_run_241 ?_
    refine zv_iload G rfl dX0_run_243 ?_
    refine zv_aload G rfl dX0_run_245 ?_
    refine zv_aload G rfl dX0_run_247 ?_
    have o31 := h.1
    have h := h.2
    refine zc_get (f := 62) (v := ar (fR w 62 x7)) G o31 rfl q816 (Or.inl rfl) (cV_R rfl) dX0_run_249 ?_
    refine zv_iload G rfl dX0_run_252 ?_
    have o32 := h.1
    have h := h.2
    refine zc_ialdN G o32.1 rx8 o32.2.1 o32.2.2 dX0_run_254 ?_
    have o33 := h.1
    have h := h.2
    refine zc_aald G o33.1 (aN_r hw _ _) o33.2.1 o33.2.2 dX0_run_255 ?_
    have o35 := h.1
    have h := h.2
    have o36 := h.1
    have h := h.2
    refine zc_aast G o35.1 o36 rx8 o35.2.1 o35.2.2 dX0_run_256 (fun u34 eu34 => ?_)
    have h := h u34 eu34
    refine zc_wk G hp (fun hu34 tu34 => ?_)
    refine zv_iincN G rfl (by decide) dX0_run_257 (fun x8_37 ex8_37 => ?_)
    have h := h x8_37 ex8_37
    have rx8_37 : zr x8_37 := by rw [ex8_37]; exact w32_r _
    refine zv_goto (tgt := 230) G (by decide) dX0_run_260 ?_
    exact zv_pick [0, 3, 5, 6, 7, 8] rfl (hI230 _ _ h rx8_37)
set_option maxHeartbeats 4000000 in
set_option maxRecDepth 100000 in
theorem cpC_X0_run_273 {Γ : ZG CW} {D : CD} {d p : Nat} (hp : D.K.1 = p) (G : ZOk Γ cX0_run RX0 9 (KnC D) (ZC D)) (M : ZRm Γ (d + 1) D.lim (Option.some Jvm.ClassFile.FieldType.int) "run" []) (S : SdC d D p Γ.l) (hl : Γ.l.stackTraces = false) (hk : 0 ≤ d) {w : CW} (h : pC_X0_run_273 p (wpC p d) (fun v w => Γ.Q (.inl (some (ai v))) w) w) : ZV Γ w 273 [(0, ar p)] [] := by
  refine zc_wk G hp (fun hw tw => ?_)
  refine zv_aload_n G rfl rfl dX0_run_273 ?_
  refine zc_get (f := 25) (v := ar (fR w 25 p)) G (hFp tw rfl) rfl q2081 (Or.inl rfl) (cV_R rfl) dX0_run_274 ?_
  have o41 := h.1
  have h := h.2
  have kj42 : ∀ v40 : Int, v40 = (if (fR w 25 p) = 0 then (-4) else fI w 56 (fR w 25 p)) → ZV Γ w 292 [(0, ar p)] (ai v40 :: []) := by
    intro v40 ev40
    have h := h v40 ev40
    have rv40 : zr v40 := by rw [ev40]; exact (zr_ite (zr_k (-4) (by decide) (by decide)) (hw.i 56 _ (by decide)))
    exact zv_iret (ty := .int) rv40 G M rfl dX0_run_292 h
  refine zv_ifnonnull (tgt := 285) G (by decide) dX0_run_277 (fun c43 => ?_) (fun c43 => ?_)
  · refine zv_aload_n G rfl rfl dX0_run_285 ?_
    refine zc_get (f := 25) (v := ar (fR w 25 p)) G (hFp tw rfl) rfl q2081 (Or.inl rfl) (cV_R rfl) dX0_run_286 ?_
    refine zc_get (f := 56) (v := ai (fI w 56 (fR w 25 p))) G (o41 c43) rfl q805 (Or.inl rfl) (cV_I (by decide) (by decide)) dX0_run_289 ?_
    exact kj42 _ (if_neg c43).symm
  · refine zv_bipush (a := (-4)) G (by decide) dX0_run_280 ?_
    refine zv_goto (tgt := 292) G (by decide) dX0_run_282 ?_
    exact kj42 _ (if_pos c43).symm
set_option maxHeartbeats 4000000 in
set_option maxRecDepth 100000 in
theorem cpC_X0_run_208 {Γ : ZG CW} {D : CD} {d p : Nat} (hp : D.K.1 = p) (G : ZOk Γ cX0_run RX0 9 (KnC D) (ZC D)) (M : ZRm Γ (d + 1) D.lim (Option.some Jvm.ClassFile.FieldType.int) "run" []) (S : SdC d D p Γ.l) (hl : Γ.l.stackTraces = false) (hk : 0 ≤ d) {x4 : Nat} {w : CW} (h : pC_X0_run_208 p (wpC p d) (fun v w => Γ.Q (.inl (some (ai v))) w) x4 w) : ZV Γ w 208 [(0, ar p), (4, ar x4)] [] := by
  refine zc_wk G hp (fun hw tw => ?_)
  refine zv_aload_n G rfl rfl dX0_run_208 ?_
  refine zv_iconst (a := 4) G (by decide) dX0_run_209 ?_
  refine zv_iconst (a := 0) G (by decide) dX0_run_210 ?_
  refine zv_aload G rfl dX0_run_211 ?_
  refine zv_bipush (a := (-4)) G (by decide) dX0_run_213 ?_
  refine zv_callV (as := [ar p, ai 4, ai 0, ar x4, ai (-4)]) (st := []) G M (zc_eV (C := zcn 1) G q2027 q2029 qs66 (Or.inl ⟨rfl, rfl⟩) q2030 md_X0_ends (zc_rc G (zne tw tw.1 (by decide)) tw.1 (by decide) (by decide) rfl) rfl dX0_run_215) (S 73 _ rfl _ _ _ h (zoks_cons trivial (zoks_cons (zr_k 4 (by decide) (by decide)) (zoks_cons (zr_k 0 (by decide) (by decide)) (zoks_cons trivial (zoks_cons (zr_k (-4) (by decide) (by decide)) zoks_nil)))))) (Or.inl ⟨rfl, rfl⟩) (zc_hk q2030 q143) (by decide) (Nat.le_of_ble_eq_true rfl) (fun u38 h => ?_) (fun _ _ h => h.elim)
  refine zc_wk G hp (fun hu38 tu38 => ?_)
  refine zv_goto (tgt := 273) G (by decide) dX0_run_218 ?_
  exact zv_pick [0] rfl (cpC_X0_run_273 hp G M S hl hk h)
set_option maxHeartbeats 4000000 in
set_option maxRecDepth 100000 in
theorem cpC_X0_run_152 {Γ : ZG CW} {D : CD} {d p : Nat} (hp : D.K.1 = p) (G : ZOk Γ cX0_run RX0 9 (KnC D) (ZC D)) (M : ZRm Γ (d + 1) D.lim (Option.some Jvm.ClassFile.FieldType.int) "run" []) (S : SdC d D p Γ.l) (hl : Γ.l.stackTraces = false) (hk : 0 ≤ d) {x4 : Nat} {x6 : Nat} {x7 : Nat} {w : CW} (h : pC_X0_run_152 p (wpC p d) (fun v w => Γ.Q (.inl (some (ai v))) w) x4 x6 x7 w) : ZV Γ w 152 [(0, ar p), (4, ar x4), (6, ar x6), (7, ar x7)] [] := by
  refine zc_wk G hp (fun hw tw => ?_)
  refine zv_aload_n G rfl rfl dX0_run_152 ?_
  refine zv_iconst (a := 0) G (by decide) dX0_run_153 ?_
  refine zv_aload G rfl dX0_run_154 ?_
  have o44 := h.1
  have h := h.2
  refine zc_get (f := 61) (v := ai (fI w 61 x7)) G o44 rfl q815 (Or.inl rfl) (cV_I (by decide) (by decide)) dX0_run_156 ?_
  have o46 := h.1
  have h := h.2
  have kj50 : ∀ v45 : Int, v45 = (if ¬ ((fI w 61 x7) < 0) then fI w 115 (aR w x6 (fI w 61 x7)) else fI w 60 x7) → ZV Γ w 184 [(0, ar p), (4, ar x4), (6, ar x6), (7, ar x7)] (ai v45 :: ai 0 :: ar p :: []) := by
    intro v45 ev45
    have h := h v45 ev45
    have rv45 : zr v45 := by rw [ev45]; exact (zr_ite (hw.i 115 _ (by decide)) (hw.i 60 _ (by decide)))
    refine zv_aload G rfl dX0_run_184 ?_
    refine zv_aload G rfl dX0_run_186 ?_
    have o47 := h.1
    have h := h.2
    refine zc_get (f := 56) (v := ai (fI w 56 x7)) G o47 rfl q805 (Or.inl rfl) (cV_I (by decide) (by decide)) dX0_run_188 ?_
    refine zv_callV (as := [ar p, ai 0, ai v45, ar x4, ai (fI w 56 x7)]) (st := []) G M (zc_eV (C := zcn 1) G q2027 q2029 qs66 (Or.inl ⟨rfl, rfl⟩) q2030 md_X0_ends (zc_rc G (zne tw tw.1 (by decide)) tw.1 (by decide) (by decide) rfl) rfl dX0_run_191) (S 73 _ rfl _ _ _ h (zoks_cons trivial (zoks_cons (zr_k 0 (by decide) (by decide)) (zoks_cons rv45 (zoks_cons trivial (zoks_cons (hw.i 56 _ (by decide)) zoks_nil)))))) (Or.inl ⟨rfl, rfl⟩) (zc_hk q2030 q143) (by decide) (Nat.le_of_ble_eq_true rfl) (fun u48 h => ?_) (fun _ _ h => h.elim)
    refine zc_wk G hp (fun hu48 tu48 => ?_)
    refine zv_goto (tgt := 273) G (by decide) dX0_run_194 ?_
    exact zv_pick [0] rfl (cpC_X0_run_273 hp G M S hl hk h)
  refine zv_if_lt (tgt := 179) G (hw.i 61 _ (by decide)) (by decide) dX0_run_159 (fun c51 => ?_) (fun c51 => ?_)
  · refine zv_aload G rfl dX0_run_179 ?_
    refine zc_get (f := 60) (v := ai (fI w 60 x7)) G (o46.1 c51) rfl q813 (Or.inl rfl) (cV_I (by decide) (by decide)) dX0_run_181 ?_
    exact kj50 _ (if_neg (fun q => q c51)).symm
  · refine zv_aload G rfl dX0_run_162 ?_
    refine zv_aload G rfl dX0_run_164 ?_
    refine zc_get (f := 61) (v := ai (fI w 61 x7)) G (o46.2 c51).1 rfl q815 (Or.inl rfl) (cV_I (by decide) (by decide)) dX0_run_166 ?_
    refine zc_aald G (o46.2 c51).2.1.1 (hw.i 61 _ (by decide)) (o46.2 c51).2.1.2.1 (o46.2 c51).2.1.2.2 dX0_run_169 ?_
    refine zc_cast G q1693 (o46.2 c51).2.2.1 dX0_run_170 ?_
    refine zc_get (f := 115) (v := ai (fI w 115 (aR w x6 (fI w 61 x7)))) G (o46.2 c51).2.2.2 rfl q1706 (Or.inl rfl) (cV_I (by decide) (by decide)) dX0_run_173 ?_
    refine zv_goto (tgt := 184) G (by decide) dX0_run_176 ?_
    exact kj50 _ (if_pos c51).symm
set_option maxHeartbeats 4000000 in
set_option maxRecDepth 100000 in
theorem cpC_X0_run_144 {Γ : ZG CW} {D : CD} {d p : Nat} (hp : D.K.1 = p) (G : ZOk Γ cX0_run RX0 9 (KnC D) (ZC D)) (M : ZRm Γ (d + 1) D.lim (Option.some Jvm.ClassFile.FieldType.int) "run" []) (S : SdC d D p Γ.l) (hl : Γ.l.stackTraces = false) (hk : 0 ≤ d) {I37 : Nat → Nat → CW → Prop} {x3 : Int} {x4 : Nat} {x6 : Nat} {x7 : Nat} {w : CW} (hI37 : ∀ (x4 : Nat) (x5 : Nat) (w : CW), I37 x4 x5 w → ZV Γ w 37 [(0, ar p), (3, ai x3), (4, ar x4), (5, ar x5)] []) (rx3 : zr x3) (h : pC_X0_run_144 p (wpC p d) (fun v w => Γ.Q (.inl (some (ai v))) w) I37 x3 x4 x6 x7 w) : ZV Γ w 144 [(0, ar p), (3, ai x3), (4, ar x4), (6, ar x6), (7, ar x7)] [] := by
  refine zc_wk G hp (fun hw tw => ?_)
  refine zv_aload G rfl dX0_run_144 ?_
  have o20 := h.1
  have h := h.2
  refine zc_get (f := 62) (v := ar (fR w 62 x7)) G o20 rfl q816 (Or.inl rfl) (cV_R rfl) dX0_run_146 ?_
  refine zv_ifnonnull (tgt := 197) G (by decide) dX0_run_149 (fun c21 => ?_) (fun c21 => ?_)
  · have h := h.2 c21
    refine zv_aload_n G rfl rfl dX0_run_197 ?_
    refine zc_get (f := 23) (v := ar (fR w 23 p)) G (hFp tw rfl) rfl q2079 (Or.inl rfl) (cV_R rfl) dX0_run_198 ?_
    refine zv_iconst (a := 2) G (by decide) dX0_run_201 ?_
    have o22 := h.1
    have h := h.2
    refine zc_ialdN G o22.1 (zr_k 2 (by decide) (by decide)) o22.2.1 o22.2.2 dX0_run_202 ?_
    refine zv_bipush (a := 100) G (by decide) dX0_run_203 ?_
    refine zv_icmp_ne (tgt := 221) G (aN_r hw _ _) (zr_k 100 (by decide) (by decide)) (by decide) dX0_run_205 (fun c23 => ?_) (fun c23 => ?_)
    · have h := h.2 c23
      refine zv_iconst (a := 3) G (by decide) dX0_run_221 ?_
      have o25 := h.1
      have h := h.2
      refine zc_anew (t := 119) G M (by decide) q1771 o25.1 o25.2 dX0_run_222 (fun u24 eu24 => ?_)
      have h := h u24 eu24
      refine zc_wk G hp (fun hu24 tu24 => ?_)
      refine zv_astore G (by decide) rfl dX0_run_225 ?_
      refine zv_iconst (a := 0) G (by decide) dX0_run_227 ?_
      refine zv_istore G (by decide) rfl dX0_run_228 ?_
      exact zv_pick [0, 3, 5, 6, 7, 8] rfl (cpC_X0_run_230 hp G M S hl hk hI37 rx3 (zr_k 0 (by decide) (by decide)) h)
    · have h := h.1 c23
      exact zv_pick [0, 4] rfl (cpC_X0_run_208 hp G M S hl hk h)
  · have h := h.1 c21
    exact zv_pick [0, 4, 6, 7] rfl (cpC_X0_run_152 hp G M S hl hk h)
set_option maxHeartbeats 4000000 in
set_option maxRecDepth 100000 in
theorem cpC_X0_run_88 {Γ : ZG CW} {D : CD} {d p : Nat} (hp : D.K.1 = p) (G : ZOk Γ cX0_run RX0 9 (KnC D) (ZC D)) (M : ZRm Γ (d + 1) D.lim (Option.some Jvm.ClassFile.FieldType.int) "run" []) (S : SdC d D p Γ.l) (hl : Γ.l.stackTraces = false) (hk : 0 ≤ d) {x4 : Nat} {w : CW} (h : pC_X0_run_88 p (wpC p d) (fun v w => Γ.Q (.inl (some (ai v))) w) x4 w) : ZV Γ w 88 [(0, ar p), (4, ar x4)] [] := by
  refine zc_wk G hp (fun hw tw => ?_)
  refine zv_aload_n G rfl rfl dX0_run_88 ?_
  refine zv_aload_n G rfl rfl dX0_run_89 ?_
  refine zc_get (f := 27) (v := ai (fI w 27 p)) G (hFp tw rfl) rfl q2083 (Or.inl rfl) (cV_I (by decide) (by decide)) dX0_run_90 ?_
  refine zv_iconst (a := 0) G (by decide) dX0_run_93 ?_
  refine zv_aload G rfl dX0_run_94 ?_
  refine zv_aload_n G rfl rfl dX0_run_96 ?_
  refine zc_get (f := 27) (v := ai (fI w 27 p)) G (hFp tw rfl) rfl q2083 (Or.inl rfl) (cV_I (by decide) (by decide)) dX0_run_97 ?_
  refine zv_iconst (a := 3) G (by decide) dX0_run_100 ?_
  have o55 := h.1
  have h := h.2
  have kj58 : ∀ v54 : Int, v54 = (if (fI w 27 p) = 3 then fI w 56 (fR w 28 p) else (-4)) → ZV Γ w 116 [(0, ar p), (4, ar x4)] (ai v54 :: ar x4 :: ai 0 :: ai (fI w 27 p) :: ar p :: []) := by
    intro v54 ev54
    have h := h v54 ev54
    have rv54 : zr v54 := by rw [ev54]; exact (zr_ite (hw.i 56 _ (by decide)) (zr_k (-4) (by decide) (by decide)))
    refine zv_callV (as := [ar p, ai (fI w 27 p), ai 0, ar x4, ai v54]) (st := []) G M (zc_eV (C := zcn 1) G q2027 q2029 qs66 (Or.inl ⟨rfl, rfl⟩) q2030 md_X0_ends (zc_rc G (zne tw tw.1 (by decide)) tw.1 (by decide) (by decide) rfl) rfl dX0_run_116) (S 73 _ rfl _ _ _ h (zoks_cons trivial (zoks_cons (hw.i 27 _ (by decide)) (zoks_cons (zr_k 0 (by decide) (by decide)) (zoks_cons trivial (zoks_cons rv54 zoks_nil)))))) (Or.inl ⟨rfl, rfl⟩) (zc_hk q2030 q143) (by decide) (Nat.le_of_ble_eq_true rfl) (fun u56 h => ?_) (fun _ _ h => h.elim)
    refine zc_wk G hp (fun hu56 tu56 => ?_)
    refine zv_goto (tgt := 273) G (by decide) dX0_run_119 ?_
    exact zv_pick [0] rfl (cpC_X0_run_273 hp G M S hl hk h)
  refine zv_icmp_ne (tgt := 114) G (hw.i 27 _ (by decide)) (zr_k 3 (by decide) (by decide)) (by decide) dX0_run_101 (fun c59 => ?_) (fun c59 => ?_)
  · refine zv_bipush (a := (-4)) G (by decide) dX0_run_114 ?_
    exact kj58 _ (if_neg c59).symm
  · refine zv_aload_n G rfl rfl dX0_run_104 ?_
    refine zc_get (f := 28) (v := ar (fR w 28 p)) G (hFp tw rfl) rfl q2084 (Or.inl rfl) (cV_R rfl) dX0_run_105 ?_
    refine zc_get (f := 56) (v := ai (fI w 56 (fR w 28 p))) G (o55 c59) rfl q805 (Or.inl rfl) (cV_I (by decide) (by decide)) dX0_run_108 ?_
    refine zv_goto (tgt := 116) G (by decide) dX0_run_111 ?_
    exact kj58 _ (if_pos c59).symm
set_option maxHeartbeats 4000000 in
set_option maxRecDepth 100000 in
theorem cpC_X0_run_81 {Γ : ZG CW} {D : CD} {d p : Nat} (hp : D.K.1 = p) (G : ZOk Γ cX0_run RX0 9 (KnC D) (ZC D)) (M : ZRm Γ (d + 1) D.lim (Option.some Jvm.ClassFile.FieldType.int) "run" []) (S : SdC d D p Γ.l) (hl : Γ.l.stackTraces = false) (hk : 0 ≤ d) {I37 : Nat → Nat → CW → Prop} {x3 : Int} {x4 : Nat} {x6 : Nat} {s0 : Nat} {w : CW} (hI37 : ∀ (x4 : Nat) (x5 : Nat) (w : CW), I37 x4 x5 w → ZV Γ w 37 [(0, ar p), (3, ai x3), (4, ar x4), (5, ar x5)] []) (rx3 : zr x3) (h : pC_X0_run_81 p (wpC p d) (fun v w => Γ.Q (.inl (some (ai v))) w) I37 x3 x4 x6 s0 w) : ZV Γ w 81 [(0, ar p), (3, ai x3), (4, ar x4), (6, ar x6)] [ar s0] := by
  refine zc_wk G hp (fun hw tw => ?_)
  refine zv_astore G (by decide) rfl dX0_run_81 ?_
  refine zv_aload G rfl dX0_run_83 ?_
  refine zv_ifnonnull (tgt := 122) G (by decide) dX0_run_85 (fun c17 => ?_) (fun c17 => ?_)
  · have h := h.2 c17
    refine zv_aload_n G rfl rfl dX0_run_122 ?_
    refine zc_get (f := 23) (v := ar (fR w 23 p)) G (hFp tw rfl) rfl q2079 (Or.inl rfl) (cV_R rfl) dX0_run_123 ?_
    refine zv_iconst (a := 2) G (by decide) dX0_run_126 ?_
    have o18 := h.1
    have h := h.2
    refine zc_ialdN G o18.1 (zr_k 2 (by decide) (by decide)) o18.2.1 o18.2.2 dX0_run_127 ?_
    refine zv_iconst (a := 1) G (by decide) dX0_run_128 ?_
    refine zv_icmp_ne (tgt := 144) G (aN_r hw _ _) (zr_k 1 (by decide) (by decide)) (by decide) dX0_run_129 (fun c19 => ?_) (fun c19 => ?_)
    · have h := h.2 c19
      exact zv_pick [0, 3, 4, 6, 7] rfl (cpC_X0_run_144 hp G M S hl hk hI37 rx3 h)
    · have h := h.1 c19
      refine zv_aload_n G rfl rfl dX0_run_132 ?_
      refine zv_aload G rfl dX0_run_133 ?_
      refine zc_putR (f := 25) G M (hPp tw rfl) rfl q2081 (Or.inl rfl) (Or.inl rfl) (zfty_25) (Or.inl ⟨_, rfl⟩) rfl dX0_run_135 (fun u52 eu52 => ?_)
      have h := h u52 eu52
      refine zc_wk G hp (fun hu52 tu52 => ?_)
      refine zv_aload_n G rfl rfl dX0_run_138 ?_
      refine zv_aload G rfl dX0_run_139 ?_
      refine zc_putR (f := 26) G M (hPp tu52 rfl) rfl q2082 (Or.inl rfl) (Or.inl rfl) (zfty_26) (Or.inr ⟨_, rfl⟩) rfl dX0_run_141 (fun u53 eu53 => ?_)
      have h := h u53 eu53
      refine zc_wk G hp (fun hu53 tu53 => ?_)
      exact zv_pick [0, 3, 4, 6, 7] rfl (cpC_X0_run_144 hp G M S hl hk hI37 rx3 h)
  · have h := h.1 c17
    exact zv_pick [0, 4] rfl (cpC_X0_run_88 hp G M S hl hk h)
set_option maxHeartbeats 4000000 in
set_option maxRecDepth 100000 in
theorem cpC_X0_run_37 {Γ : ZG CW} {D : CD} {d p : Nat} (hp : D.K.1 = p) (G : ZOk Γ cX0_run RX0 9 (KnC D) (ZC D)) (M : ZRm Γ (d + 1) D.lim (Option.some Jvm.ClassFile.FieldType.int) "run" []) (S : SdC d D p Γ.l) (hl : Γ.l.stackTraces = false) (hk : 0 ≤ d) {x3 : Int} {x4 : Nat} {x5 : Nat} {w : CW} (rx3 : zr x3) (h : pC_X0_run_37 p (wpC p d) (fun v w => Γ.Q (.inl (some (ai v))) w) x3 x4 x5 w) : ZV Γ w 37 [(0, ar p), (3, ai x3), (4, ar x4), (5, ar x5)] [] := by
  obtain ⟨I37, eI37⟩ : ∃ I : Nat → Nat → CW → Prop, I = (fun x4 x5 w => ZV Γ w 37 [(0, ar p), (3, ai x3), (4, ar x4), (5, ar x5)] []) := ⟨_, rfl⟩
  have hI37 : ∀ (x4 : Nat) (x5 : Nat) (w : CW), I37 x4 x5 w → ZV Γ w 37 [(0, ar p), (3, ai x3), (4, ar x4), (5, ar x5)] [] := by subst eI37; exact fun _ _ _ z => z
  have hJ37 : ∀ (x4 : Nat) (x5 : Nat) (w : CW), (ZV Γ w 37 [(0, ar p), (3, ai x3), (4, ar x4), (5, ar x5)] []) → I37 x4 x5 w := by subst eI37; exact fun _ _ _ z => z
  refine hI37 x4 x5 w (h I37 (fun x4 x5 w h => hJ37 x4 x5 w ?_)) 
  refine zc_wk G hp (fun hw tw => ?_)
  refine zv_aload_n G rfl rfl dX0_run_37 ?_
  refine zc_get (f := 23) (v := ar (fR w 23 p)) G (hFp tw rfl) rfl q2079 (Or.inl rfl) (cV_R rfl) dX0_run_38 ?_
  refine zv_iconst (a := 2) G (by decide) dX0_run_41 ?_
  refine zv_dup2_11 G rfl rfl dX0_run_42 ?_
  have o9 := h.1
  have h := h.2
  refine zc_ialdN G o9.1 (zr_k 2 (by decide) (by decide)) o9.2.1 o9.2.2 dX0_run_43 ?_
  refine zv_iconst (a := 1) G (by decide) dX0_run_44 ?_
  refine zv_iadd G dX0_run_45 ?_
  have o11 := h.1
  have h := h.2
  refine zc_iast G o11.1 (zr_k 2 (by decide) (by decide)) (w32_r _) o11.2.1 o11.2.2 dX0_run_46 (fun u10 eu10 => ?_)
  have h := h u10 eu10
  refine zc_wk G hp (fun hu10 tu10 => ?_)
  refine zv_bipush (a := 8) G (by decide) dX0_run_47 ?_
  have o13 := h.1
  have h := h.2
  refine zc_anew (t := 119) G M (by decide) q1771 o13.1 o13.2 dX0_run_49 (fun u12 eu12 => ?_)
  have h := h u12 eu12
  refine zc_wk G hp (fun hu12 tu12 => ?_)
  refine zv_astore G (by decide) rfl dX0_run_52 ?_
  refine zv_iload_n G rfl rfl dX0_run_54 ?_
  refine zv_if_eq (tgt := 71) G rx3 (by decide) dX0_run_55 (fun c14 => ?_) (fun c14 => ?_)
  · have h := h.1 c14
    refine zv_aload_n G rfl rfl dX0_run_71 ?_
    refine zv_aload G rfl dX0_run_72 ?_
    refine zv_aload G rfl dX0_run_74 ?_
    refine zv_aload G rfl dX0_run_76 ?_
    refine zv_callR (as := [ar p, ar x4, ar x5, ar (cz u10 + 1)]) (st := []) G M (zc_eV (C := zcn 1) G q1976 q1978 qs65 (Or.inl ⟨rfl, rfl⟩) q1979 md_X0_plainly (zc_rc G (zne tu12 tu12.1 (by decide)) tu12.1 (by decide) (by decide) rfl) rfl dX0_run_78) (S 72 _ rfl _ _ _ h (zoks_cons trivial (zoks_cons trivial (zoks_cons trivial (zoks_cons trivial zoks_nil))))) (Or.inl ⟨rfl, rfl⟩) (zc_hk q1979 q143) (by decide) (Nat.le_of_ble_eq_true rfl) (fun v16 u15 h => ?_) (fun _ _ h => h.elim)
    refine zc_wk G hp (fun hu15 tu15 => ?_)
    exact zv_pick [0, 3, 4, 6] rfl (cpC_X0_run_81 hp G M S hl hk hI37 rx3 h)
  · have h := h.2 c14
    refine zv_aload_n G rfl rfl dX0_run_58 ?_
    refine zv_aload G rfl dX0_run_59 ?_
    refine zv_aload G rfl dX0_run_61 ?_
    refine zv_aload G rfl dX0_run_63 ?_
    refine zv_callR (as := [ar p, ar x4, ar x5, ar (cz u10 + 1)]) (st := []) G M (zc_eV (C := zcn 1) G q1890 q1892 qs61 (Or.inl ⟨rfl, rfl⟩) q1893 md_X0_byTree (zc_rc G (zne tu12 tu12.1 (by decide)) tu12.1 (by decide) (by decide) rfl) rfl dX0_run_65) (S 70 _ rfl _ _ _ h (zoks_cons trivial (zoks_cons trivial (zoks_cons trivial (zoks_cons trivial zoks_nil))))) (Or.inl ⟨rfl, rfl⟩) (zc_hk q1893 q143) (by decide) (Nat.le_of_ble_eq_true rfl) (fun v61 u60 h => ?_) (fun _ _ h => h.elim)
    refine zc_wk G hp (fun hu60 tu60 => ?_)
    refine zv_goto (tgt := 81) G (by decide) dX0_run_68 ?_
    exact zv_pick [0, 3, 4, 6] rfl (cpC_X0_run_81 hp G M S hl hk hI37 rx3 h)
set_option maxHeartbeats 4000000 in
set_option maxRecDepth 100000 in
theorem cpC_X0_run_0 {Γ : ZG CW} {D : CD} {d p : Nat} (hp : D.K.1 = p) (G : ZOk Γ cX0_run RX0 9 (KnC D) (ZC D)) (M : ZRm Γ (d + 1) D.lim (Option.some Jvm.ClassFile.FieldType.int) "run" []) (S : SdC d D p Γ.l) (hl : Γ.l.stackTraces = false) (hk : 0 ≤ d) {x1 : Nat} {x2 : Nat} {x3 : Int} {w : CW} (rx3 : zr x3) (h : pC_X0_run_0 p (wpC p d) (fun v w => Γ.Q (.inl (some (ai v))) w) x1 x2 x3 w) : ZV Γ w 0 [(0, ar p), (1, ar x1), (2, ar x2), (3, ai x3)] [] := by
  refine zc_wk G hp (fun hw tw => ?_)
  refine zv_aload_n G rfl rfl dX0_run_0 ?_
  refine zc_get (f := 23) (v := ar (fR w 23 p)) G (hFp tw rfl) rfl q2079 (Or.inl rfl) (cV_R rfl) dX0_run_1 ?_
  refine zv_iconst (a := 2) G (by decide) dX0_run_4 ?_
  refine zv_iconst (a := 0) G (by decide) dX0_run_5 ?_
  have o2 := h.1
  have h := h.2
  refine zc_iast G o2.1 (zr_k 2 (by decide) (by decide)) (zr_k 0 (by decide) (by decide)) o2.2.1 o2.2.2 dX0_run_6 (fun u1 eu1 => ?_)
  have h := h u1 eu1
  refine zc_wk G hp (fun hu1 tu1 => ?_)
  refine zv_aload_n G rfl rfl dX0_run_7 ?_
  refine zc_get (f := 23) (v := ar (fR u1 23 p)) G (hFp tu1 rfl) rfl q2079 (Or.inl rfl) (cV_R rfl) dX0_run_8 ?_
  refine zv_iconst (a := 3) G (by decide) dX0_run_11 ?_
  refine zv_iconst (a := 0) G (by decide) dX0_run_12 ?_
  have o4 := h.1
  have h := h.2
  refine zc_iast G o4.1 (zr_k 3 (by decide) (by decide)) (zr_k 0 (by decide) (by decide)) o4.2.1 o4.2.2 dX0_run_13 (fun u3 eu3 => ?_)
  have h := h u3 eu3
  refine zc_wk G hp (fun hu3 tu3 => ?_)
  refine zv_aload_n G rfl rfl dX0_run_14 ?_
  refine zc_get (f := 23) (v := ar (fR u3 23 p)) G (hFp tu3 rfl) rfl q2079 (Or.inl rfl) (cV_R rfl) dX0_run_15 ?_
  refine zv_iconst (a := 4) G (by decide) dX0_run_18 ?_
  refine zv_iconst (a := 0) G (by decide) dX0_run_19 ?_
  have o6 := h.1
  have h := h.2
  refine zc_iast G o6.1 (zr_k 4 (by decide) (by decide)) (zr_k 0 (by decide) (by decide)) o6.2.1 o6.2.2 dX0_run_20 (fun u5 eu5 => ?_)
  have h := h u5 eu5
  refine zc_wk G hp (fun hu5 tu5 => ?_)
  refine zv_aload_n G rfl rfl dX0_run_21 ?_
  refine zv_null G dX0_run_22 ?_
  refine zc_putR (f := 25) G M (hPp tu5 rfl) rfl q2081 (Or.inl rfl) (Or.inl rfl) (zfty_25) (Or.inl ⟨_, rfl⟩) rfl dX0_run_23 (fun u7 eu7 => ?_)
  have h := h u7 eu7
  refine zc_wk G hp (fun hu7 tu7 => ?_)
  refine zv_aload_n G rfl rfl dX0_run_26 ?_
  refine zv_iconst (a := 0) G (by decide) dX0_run_27 ?_
  refine zc_putI (f := 27) G M (hPp tu7 rfl) rfl q2083 (Or.inl rfl) (Or.inl rfl) (zfty_27) rfl rfl (by decide) (by decide) (zr_k 0 (by decide) (by decide)) dX0_run_28 (fun u8 eu8 => ?_)
  have h := h u8 eu8
  refine zc_wk G hp (fun hu8 tu8 => ?_)
  refine zv_aload_n G rfl rfl dX0_run_31 ?_
  refine zv_astore G (by decide) rfl dX0_run_32 ?_
  refine zv_aload_n G rfl rfl dX0_run_34 ?_
  refine zv_astore G (by decide) rfl dX0_run_35 ?_
  exact zv_pick [0, 3, 4, 5] rfl (cpC_X0_run_37 hp G M S hl hk rx3 h)
set_option maxHeartbeats 4000000 in
set_option maxRecDepth 100000 in
theorem cpC_X0_byTree_134 {Γ : ZG CW} {D : CD} {d p : Nat} (hp : D.K.1 = p) (G : ZOk Γ cX0_byTree RX0 6 (KnC D) (ZC D)) (M : ZRm Γ (d + 1) D.lim (Option.some (Jvm.ClassFile.FieldType.object "LetterPost$Rule")) "byTree" []) (S : SdC d D p Γ.l) (hl : Γ.l.stackTraces = false) (hk : 0 ≤ d) {w : CW} (h : pC_X0_byTree_134 p (wpC p d) (fun v w => Γ.Q (.inl (some (ar v))) w) w) : ZV Γ w 134 [] [] := by
  refine zc_wk G hp (fun hw tw => ?_)
  refine zv_null G dX0_byTree_134 ?_
  exact zv_aret G M (Or.inl ⟨_, rfl⟩) dX0_byTree_135 h
set_option maxHeartbeats 4000000 in
set_option maxRecDepth 100000 in
theorem cpC_X0_byTree_60 {Γ : ZG CW} {D : CD} {d p : Nat} (hp : D.K.1 = p) (G : ZOk Γ cX0_byTree RX0 6 (KnC D) (ZC D)) (M : ZRm Γ (d + 1) D.lim (Option.some (Jvm.ClassFile.FieldType.object "LetterPost$Rule")) "byTree" []) (S : SdC d D p Γ.l) (hl : Γ.l.stackTraces = false) (hk : 0 ≤ d) {x5 : Nat} {w : CW} (h : pC_X0_byTree_60 p (wpC p d) (fun v w => Γ.Q (.inl (some (ar v))) w) x5 w) : ZV Γ w 60 [(5, ar x5)] [] := by
  refine zc_wk G hp (fun hw tw => ?_)
  refine zv_aload G rfl dX0_byTree_60 ?_
  have o31 := h.1
  have h := h.2
  refine zc_get (f := 108) (v := ar (fR w 108 x5)) G o31 rfl q1386 (Or.inl rfl) (cV_R rfl) dX0_byTree_62 ?_
  have o32 := h.1
  have h := h.2
  refine zc_get (f := 80) (v := ar (fR w 80 (fR w 108 x5))) G o32 rfl q1106 (Or.inl rfl) (cV_R rfl) dX0_byTree_65 ?_
  exact zv_aret G M (Or.inl ⟨_, rfl⟩) dX0_byTree_68 h
set_option maxHeartbeats 4000000 in
set_option maxRecDepth 100000 in
theorem cpC_X0_byTree_6 {Γ : ZG CW} {D : CD} {d p : Nat} (hp : D.K.1 = p) (G : ZOk Γ cX0_byTree RX0 6 (KnC D) (ZC D)) (M : ZRm Γ (d + 1) D.lim (Option.some (Jvm.ClassFile.FieldType.object "LetterPost$Rule")) "byTree" []) (S : SdC d D p Γ.l) (hl : Γ.l.stackTraces = false) (hk : 0 ≤ d) {x1 : Nat} {x2 : Nat} {x3 : Nat} {x4 : Nat} {w : CW} (h : pC_X0_byTree_6 p (wpC p d) (fun v w => Γ.Q (.inl (some (ar v))) w) x1 x2 x3 x4 w) : ZV Γ w 6 [(0, ar p), (1, ar x1), (2, ar x2), (3, ar x3), (4, ar x4)] [] := by
  obtain ⟨I6, eI6⟩ : ∃ I : Nat → CW → Prop, I = (fun x4 w => ZV Γ w 6 [(0, ar p), (1, ar x1), (2, ar x2), (3, ar x3), (4, ar x4)] []) := ⟨_, rfl⟩
  have hI6 : ∀ (x4 : Nat) (w : CW), I6 x4 w → ZV Γ w 6 [(0, ar p), (1, ar x1), (2, ar x2), (3, ar x3), (4, ar x4)] [] := by subst eI6; exact fun _ _ z => z
  have hJ6 : ∀ (x4 : Nat) (w : CW), (ZV Γ w 6 [(0, ar p), (1, ar x1), (2, ar x2), (3, ar x3), (4, ar x4)] []) → I6 x4 w := by subst eI6; exact fun _ _ z => z
  refine hI6 x4 w (h I6 (fun x4 w h => hJ6 x4 w ?_)) 
  refine zc_wk G hp (fun hw tw => ?_)
  refine zv_aload_n G rfl rfl dX0_byTree_6 ?_
  refine zc_get (f := 27) (v := ai (fI w 27 p)) G (hFp tw rfl) rfl q2083 (Or.inl rfl) (cV_I (by decide) (by decide)) dX0_byTree_7 ?_
  refine zv_if_ne (tgt := 134) G (hw.i 27 _ (by decide)) (by decide) dX0_byTree_10 (fun c3 => ?_) (fun c3 => ?_)
  · have h := h.2 c3
    exact zv_pick [] rfl (cpC_X0_byTree_134 hp G M S hl hk h)
  · have h := h.1 c3
    refine zv_aload G rfl dX0_byTree_13 ?_
    have o4 := h.1
    have h := h.2
    refine zc_inst G q1894 o4 dX0_byTree_15 ?_
    refine zv_bif_eq (tgt := 80) G (by decide) dX0_byTree_18 (fun c5 => ?_) (fun c5 => ?_)
    · have h := h.2 c5
      refine zv_aload G rfl dX0_byTree_80 ?_
      have o6 := h.1
      have h := h.2
      refine zc_inst G q1958 o6 dX0_byTree_82 ?_
      refine zv_bif_eq (tgt := 126) G (by decide) dX0_byTree_85 (fun c7 => ?_) (fun c7 => ?_)
      · have h := h.2 c7
        refine zv_aload_n G rfl rfl dX0_byTree_126 ?_
        refine zv_iconst (a := 1) G (by decide) dX0_byTree_127 ?_
        refine zc_putI (f := 27) G M (hPp tw rfl) rfl q2083 (Or.inl rfl) (Or.inl rfl) (zfty_27) rfl rfl (by decide) (by decide) (zr_k 1 (by decide) (by decide)) dX0_byTree_128 (fun u8 eu8 => ?_)
        have h := h u8 eu8
        refine zc_wk G hp (fun hu8 tu8 => ?_)
        refine zv_goto (tgt := 6) G (by decide) dX0_byTree_131 ?_
        exact zv_pick [0, 1, 2, 3, 4] rfl (hI6 _ _ h )
      · have h := h.1 c7
        refine zv_aload_n G rfl rfl dX0_byTree_88 ?_
        refine zc_get (f := 23) (v := ar (fR w 23 p)) G (hFp tw rfl) rfl q2079 (Or.inl rfl) (cV_R rfl) dX0_byTree_89 ?_
        refine zv_iconst (a := 3) G (by decide) dX0_byTree_92 ?_
        refine zv_dup2_11 G rfl rfl dX0_byTree_93 ?_
        have o9 := h.1
        have h := h.2
        refine zc_ialdN G o9.1 (zr_k 3 (by decide) (by decide)) o9.2.1 o9.2.2 dX0_byTree_94 ?_
        refine zv_iconst (a := 1) G (by decide) dX0_byTree_95 ?_
        refine zv_iadd G dX0_byTree_96 ?_
        have o11 := h.1
        have h := h.2
        refine zc_iast G o11.1 (zr_k 3 (by decide) (by decide)) (w32_r _) o11.2.1 o11.2.2 dX0_byTree_97 (fun u10 eu10 => ?_)
        have h := h u10 eu10
        refine zc_wk G hp (fun hu10 tu10 => ?_)
        refine zv_aload G rfl dX0_byTree_98 ?_
        refine zv_aload_n G rfl rfl dX0_byTree_100 ?_
        have kj18 : ∀ (v13 : Nat) (u12 : CW), (
            ∀ v14 : Int, v14 = (if v13 = 0 then 2 else fI u12 27 p) →
            ∀ u15 : CW, u15 = pI u12 27 p v14 →
            I6 v13 u15) → ZV Γ u12 104 [(0, ar p), (1, ar x1), (2, ar x2), (3, ar x3), (4, ar x4)] [ar v13] := by
          intro v13 u12 h
          refine zc_wk G hp (fun hu12 tu12 => ?_)
          refine zv_astore G (by decide) rfl dX0_byTree_104 ?_
          refine zv_aload_n G rfl rfl dX0_byTree_106 ?_
          refine zv_aload G rfl dX0_byTree_107 ?_
          have kj16 : ∀ v14 : Int, v14 = (if v13 = 0 then 2 else fI u12 27 p) → ZV Γ u12 120 [(4, ar v13), (0, ar p), (1, ar x1), (2, ar x2), (3, ar x3)] (ai v14 :: ar p :: []) := by
            intro v14 ev14
            have h := h v14 ev14
            have rv14 : zr v14 := by rw [ev14]; exact (zr_ite (zr_k 2 (by decide) (by decide)) (hu12.i 27 _ (by decide)))
            refine zc_putI (f := 27) G M (hPp tu12 rfl) rfl q2083 (Or.inl rfl) (Or.inl rfl) (zfty_27) rfl rfl (by decide) (by decide) rv14 dX0_byTree_120 (fun u15 eu15 => ?_)
            have h := h u15 eu15
            refine zc_wk G hp (fun hu15 tu15 => ?_)
            refine zv_goto (tgt := 6) G (by decide) dX0_byTree_123 ?_
            exact zv_pick [0, 1, 2, 3, 4] rfl (hI6 _ _ h )
          refine zv_ifnonnull (tgt := 116) G (by decide) dX0_byTree_109 (fun c17 => ?_) (fun c17 => ?_)
          · refine zv_aload_n G rfl rfl dX0_byTree_116 ?_
            refine zc_get (f := 27) (v := ai (fI u12 27 p)) G (hFp tu12 rfl) rfl q2083 (Or.inl rfl) (cV_I (by decide) (by decide)) dX0_byTree_117 ?_
            exact kj16 _ (if_neg c17).symm
          · refine zv_iconst (a := 2) G (by decide) dX0_byTree_112 ?_
            refine zv_goto (tgt := 120) G (by decide) dX0_byTree_113 ?_
            exact kj16 _ (if_pos c17).symm
        have h : wpC p d (vm8 (tg u10 x4)) [ar x4, ar x2] u10 _ := h
        by_cases c19 : tg u10 x4 = 19
        · have e : vm8 (tg u10 x4) = 160 := by rw [c19]; rfl
          rw [e] at h
          exact zv_callR (as := [ar x4, ar x2]) (st := []) G M (zc_eV (C := zcn 19) G q1959 q1956 q3014 (Or.inl ⟨rfl, rfl⟩) q1957 md_X21_go (zc_rc G (zne tu10 c19 (by decide)) c19 (by decide) (by decide) rfl) rfl dX0_byTree_101) (S 160 _ rfl _ _ _ h (zoks_cons trivial (zoks_cons trivial zoks_nil))) (Or.inl ⟨rfl, rfl⟩) (zc_hk q1957 q177) (by decide) (Nat.le_of_ble_eq_true rfl) kj18 (fun _ _ h => h.elim)
        by_cases c20 : tg u10 x4 = 20
        · have e : vm8 (tg u10 x4) = 160 := by rw [c20]; rfl
          rw [e] at h
          exact zv_callR (as := [ar x4, ar x2]) (st := []) G M (zc_eV (C := zcn 20) G q1959 q1956 q3009 (Or.inl ⟨rfl, rfl⟩) q1957 md_X21_go (zc_rc G (zne tu10 c20 (by decide)) c20 (by decide) (by decide) rfl) rfl dX0_byTree_101) (S 160 _ rfl _ _ _ h (zoks_cons trivial (zoks_cons trivial zoks_nil))) (Or.inl ⟨rfl, rfl⟩) (zc_hk q1957 q177) (by decide) (Nat.le_of_ble_eq_true rfl) kj18 (fun _ _ h => h.elim)
        by_cases c21 : tg u10 x4 = 21
        · have e : vm8 (tg u10 x4) = 168 := by rw [c21]; rfl
          rw [e] at h
          exact zv_callR (as := [ar x4, ar x2]) (st := []) G M (zc_eU (C := zcn 21) G q1959 q3008 (zc_declD G q1951) ⟨by decide, by decide⟩ q3010 q1954 md_X21_go (zc_rc G (zne tu10 c21 (by decide)) c21 (by decide) (by decide) rfl) rfl dX0_byTree_101) (S 168 _ rfl _ _ _ h (zoks_cons trivial (zoks_cons trivial zoks_nil))) (Or.inl ⟨rfl, rfl⟩) (zc_hk q1955 q180) (by decide) (Nat.le_of_ble_eq_true rfl) kj18 (fun _ _ h => h.elim)
        by_cases c22 : tg u10 x4 = 22
        · have e : vm8 (tg u10 x4) = 173 := by rw [c22]; rfl
          rw [e] at h
          exact zv_callR (as := [ar x4, ar x2]) (st := []) G M (zc_eU (C := zcn 22) G q1959 q3008 (zc_declD G q1951) ⟨by decide, by decide⟩ q3011 q1960 md_X21_go (zc_rc G (zne tu10 c22 (by decide)) c22 (by decide) (by decide) rfl) rfl dX0_byTree_101) (S 173 _ rfl _ _ _ h (zoks_cons trivial (zoks_cons trivial zoks_nil))) (Or.inl ⟨rfl, rfl⟩) (zc_hk q1961 q182) (by decide) (Nat.le_of_ble_eq_true rfl) kj18 (fun _ _ h => h.elim)
        by_cases c23 : tg u10 x4 = 23
        · have e : vm8 (tg u10 x4) = 176 := by rw [c23]; rfl
          rw [e] at h
          exact zv_callR (as := [ar x4, ar x2]) (st := []) G M (zc_eU (C := zcn 23) G q1959 q3008 (zc_declD G q1951) ⟨by decide, by decide⟩ q3013 q1968 md_X21_go (zc_rc G (zne tu10 c23 (by decide)) c23 (by decide) (by decide) rfl) rfl dX0_byTree_101) (S 176 _ rfl _ _ _ h (zoks_cons trivial (zoks_cons trivial zoks_nil))) (Or.inl ⟨rfl, rfl⟩) (zc_hk q1969 q183) (by decide) (Nat.le_of_ble_eq_true rfl) kj18 (fun _ _ h => h.elim)
        by_cases c24 : tg u10 x4 = 24
        · have e : vm8 (tg u10 x4) = 179 := by rw [c24]; rfl
          rw [e] at h
          exact zv_callR (as := [ar x4, ar x2]) (st := []) G M (zc_eU (C := zcn 24) G q1959 q3008 (zc_declD G q1951) ⟨by decide, by decide⟩ q3012 q1964 md_X21_go (zc_rc G (zne tu10 c24 (by decide)) c24 (by decide) (by decide) rfl) rfl dX0_byTree_101) (S 179 _ rfl _ _ _ h (zoks_cons trivial (zoks_cons trivial zoks_nil))) (Or.inl ⟨rfl, rfl⟩) (zc_hk q1965 q184) (by decide) (Nat.le_of_ble_eq_true rfl) kj18 (fun _ _ h => h.elim)
        by_cases c25 : tg u10 x4 = 25
        · have e : vm8 (tg u10 x4) = 182 := by rw [c25]; rfl
          rw [e] at h
          exact zv_callR (as := [ar x4, ar x2]) (st := []) G M (zc_eU (C := zcn 25) G q1959 q3008 (zc_declD G q1951) ⟨by decide, by decide⟩ q3015 q1972 md_X21_go (zc_rc G (zne tu10 c25 (by decide)) c25 (by decide) (by decide) rfl) rfl dX0_byTree_101) (S 182 _ rfl _ _ _ h (zoks_cons trivial (zoks_cons trivial zoks_nil))) (Or.inl ⟨rfl, rfl⟩) (zc_hk q1973 q185) (by decide) (Nat.le_of_ble_eq_true rfl) kj18 (fun _ _ h => h.elim)
        have e : vm8 (tg u10 x4) = 9999 := by unfold vm8; rw [if_neg c19, if_neg c20, if_neg c21, if_neg c22, if_neg c23, if_neg c24, if_neg c25]
        rw [e] at h
        exact (wpC_none h).elim
    · have h := h.1 c5
      refine zv_aload G rfl dX0_byTree_21 ?_
      have o26 := h.1
      have h := h.2
      refine zc_cast G q1894 o26 dX0_byTree_23 ?_
      refine zv_astore G (by decide) rfl dX0_byTree_26 ?_
      refine zv_aload G rfl dX0_byTree_28 ?_
      refine zv_aload_n G rfl rfl dX0_byTree_30 ?_
      refine zv_aload_n G rfl rfl dX0_byTree_31 ?_
      have o43 := h.1
      have h := h.2
      have en44 : ZEn Γ w 32 [(5, ar x4), (0, ar p), (1, ar x1), (2, ar x2), (3, ar x3), (4, ar x4)] yX23_binds 3 [ar x4, ar x2, ar x3] [] := by
        rcases o43 with z | z
        · exact (zc_eV (C := zcn 20) G q1895 q1896 q1897 (Or.inl ⟨rfl, rfl⟩) q1900 md_X23_binds (zc_rc G (zne tw z (by decide)) z (by decide) (by decide) rfl) rfl dX0_byTree_32)
        · exact (zc_eV (C := zcn 21) G q1895 q1896 q1899 (Or.inl ⟨rfl, rfl⟩) q1900 md_X23_binds (zc_rc G (zne tw z (by decide)) z (by decide) (by decide) rfl) rfl dX0_byTree_32)
      refine zv_callV (as := [ar x4, ar x2, ar x3]) (st := []) G M en44 (S 165 _ rfl _ _ _ h (zoks_cons trivial (zoks_cons trivial (zoks_cons trivial zoks_nil)))) (Or.inl ⟨rfl, rfl⟩) (zc_hk q1900 q179) (by decide) (Nat.le_of_ble_eq_true rfl) (fun u27 h => ?_) (fun _ _ h => h.elim)
      refine zc_wk G hp (fun hu27 tu27 => ?_)
      refine zv_aload G rfl dX0_byTree_35 ?_
      have o29 := h.1
      have h := h.2
      refine zc_inst G q1907 o29 dX0_byTree_37 ?_
      refine zv_bif_eq (tgt := 60) G (by decide) dX0_byTree_40 (fun c30 => ?_) (fun c30 => ?_)
      · have h := h.2 c30
        exact zv_pick [5] rfl (cpC_X0_byTree_60 hp G M S hl hk h)
      · have h := h.1 c30
        refine zv_aload_n G rfl rfl dX0_byTree_43 ?_
        refine zv_aload_n G rfl rfl dX0_byTree_44 ?_
        refine zv_aload G rfl dX0_byTree_45 ?_
        have o33 := h.1
        have h := h.2
        refine zc_get (f := 108) (v := ar (fR u27 108 x4)) G o33 rfl q1386 (Or.inl rfl) (cV_R rfl) dX0_byTree_47 ?_
        have o34 := h.1
        have h := h.2
        refine zc_get (f := 80) (v := ar (fR u27 80 (fR u27 108 x4))) G o34 rfl q1106 (Or.inl rfl) (cV_R rfl) dX0_byTree_50 ?_
        refine zv_aload_n G rfl rfl dX0_byTree_53 ?_
        refine zv_callI (as := [ar p, ar x1, ar (fR u27 80 (fR u27 108 x4)), ar x3]) (st := []) G M (zc_eV (C := zcn 1) G q1908 q1910 qs62 (Or.inr rfl) q1911 md_X0_asks (zc_rc G (zne tu27 tu27.1 (by decide)) tu27.1 (by decide) (by decide) rfl) rfl dX0_byTree_54) (S 71 _ rfl _ _ _ h (zoks_cons trivial (zoks_cons trivial (zoks_cons trivial (zoks_cons trivial zoks_nil))))) (Or.inr rfl) (zc_hk q1911 q143) (by decide) (Nat.le_of_ble_eq_true rfl) (fun v36 u35 rv36 h => ?_) (fun _ _ h => h.elim)
        refine zc_wk G hp (fun hu35 tu35 => ?_)
        refine zv_if_eq (tgt := 69) G rv36 (by decide) dX0_byTree_57 (fun c37 => ?_) (fun c37 => ?_)
        · have h := h.1 c37
          refine zv_aload G rfl dX0_byTree_69 ?_
          refine zv_aload_n G rfl rfl dX0_byTree_71 ?_
          have kj40 : ∀ (v39 : Nat) (u38 : CW), (
              I6 v39 u38) → ZV Γ u38 75 [(5, ar x4), (0, ar p), (1, ar x1), (2, ar x2), (3, ar x3), (4, ar x4)] [ar v39] := by
            intro v39 u38 h
            refine zc_wk G hp (fun hu38 tu38 => ?_)
            refine zv_astore G (by decide) rfl dX0_byTree_75 ?_
            refine zv_goto (tgt := 6) G (by decide) dX0_byTree_77 ?_
            exact zv_pick [0, 1, 2, 3, 4] rfl (hI6 _ _ h )
          have h : wpC p d (vm9 (tg u35 x4)) [ar x4, ar x2] u35 _ := h
          by_cases c41 : tg u35 x4 = 20
          · have e : vm9 (tg u35 x4) = 160 := by rw [c41]; rfl
            rw [e] at h
            exact zv_callR (as := [ar x4, ar x2]) (st := []) G M (zc_eU (C := zcn 20) G q1949 q1950 (zc_declD G q1951) ⟨by decide, by decide⟩ q1952 q1956 mdx_2 (zc_rc G (zne tu35 c41 (by decide)) c41 (by decide) (by decide) rfl) rfl dX0_byTree_72) (S 160 _ rfl _ _ _ h (zoks_cons trivial (zoks_cons trivial zoks_nil))) (Or.inl ⟨rfl, rfl⟩) (zc_hk q1957 q177) (by decide) (Nat.le_of_ble_eq_true rfl) kj40 (fun _ _ h => h.elim)
          by_cases c42 : tg u35 x4 = 21
          · have e : vm9 (tg u35 x4) = 168 := by rw [c42]; rfl
            rw [e] at h
            exact zv_callR (as := [ar x4, ar x2]) (st := []) G M (zc_eU (C := zcn 21) G q1949 q1950 (zc_declD G q1951) ⟨by decide, by decide⟩ q1953 q1954 mdx_2 (zc_rc G (zne tu35 c42 (by decide)) c42 (by decide) (by decide) rfl) rfl dX0_byTree_72) (S 168 _ rfl _ _ _ h (zoks_cons trivial (zoks_cons trivial zoks_nil))) (Or.inl ⟨rfl, rfl⟩) (zc_hk q1955 q180) (by decide) (Nat.le_of_ble_eq_true rfl) kj40 (fun _ _ h => h.elim)
          have e : vm9 (tg u35 x4) = 9999 := by unfold vm9; rw [if_neg c41, if_neg c42]
          rw [e] at h
          exact (wpC_none h).elim
        · have h := h.2 c37
          exact zv_pick [5] rfl (cpC_X0_byTree_60 hp G M S hl hk h)
set_option maxHeartbeats 4000000 in
set_option maxRecDepth 100000 in
theorem cpC_X0_byTree_0 {Γ : ZG CW} {D : CD} {d p : Nat} (hp : D.K.1 = p) (G : ZOk Γ cX0_byTree RX0 6 (KnC D) (ZC D)) (M : ZRm Γ (d + 1) D.lim (Option.some (Jvm.ClassFile.FieldType.object "LetterPost$Rule")) "byTree" []) (S : SdC d D p Γ.l) (hl : Γ.l.stackTraces = false) (hk : 0 ≤ d) {x1 : Nat} {x2 : Nat} {x3 : Nat} {w : CW} (h : pC_X0_byTree_0 p (wpC p d) (fun v w => Γ.Q (.inl (some (ar v))) w) x1 x2 x3 w) : ZV Γ w 0 [(0, ar p), (1, ar x1), (2, ar x2), (3, ar x3)] [] := by
  refine zc_wk G hp (fun hw tw => ?_)
  refine zv_aload_n G rfl rfl dX0_byTree_0 ?_
  have o1 := h.1
  have h := h.2
  refine zc_get (f := 52) (v := ar (fR w 52 x1)) G o1 rfl q761 (Or.inl rfl) (cV_R rfl) dX0_byTree_1 ?_
  refine zv_astoreN G (by decide) dX0_byTree_4 (fun x4_2 ex4_2 => ?_)
  have h := h x4_2 ex4_2
  exact zv_pick [0, 1, 2, 3, 4] rfl (cpC_X0_byTree_6 hp G M S hl hk h)
set_option maxHeartbeats 4000000 in
set_option maxRecDepth 100000 in
theorem cpC_X0_asks_53 {Γ : ZG CW} {D : CD} {d p : Nat} (hp : D.K.1 = p) (G : ZOk Γ cX0_asks RX0 5 (KnC D) (ZC D)) (M : ZRm Γ (d + 1) D.lim (Option.some Jvm.ClassFile.FieldType.boolean) "asks" [(44, 52, 53, 577)]) (S : SdC d D p Γ.l) (hl : Γ.l.stackTraces = false) (hk : 0 ≤ d) {x2 : Nat} {s0 : Nat} {w : CW} (h : pC_X0_asks_53 p (wpC p d) (fun v w => Γ.Q (.inl (some (ai v))) w) x2 s0 w) : ZV Γ w 53 [(0, ar p), (2, ar x2)] [ar s0] := by
  refine zc_wk G hp (fun hw tw => ?_)
  refine zv_astore G (by decide) rfl dX0_asks_53 ?_
  refine zv_aload_n G rfl rfl dX0_asks_55 ?_
  refine zv_iconst (a := 3) G (by decide) dX0_asks_56 ?_
  refine zc_putI (f := 27) G M (hPp tw rfl) rfl q2083 (Or.inl rfl) (Or.inl rfl) (zfty_27) rfl rfl (by decide) (by decide) (zr_k 3 (by decide) (by decide)) dX0_asks_57 (fun u11 eu11 => ?_)
  have h := h u11 eu11
  refine zc_wk G hp (fun hu11 tu11 => ?_)
  refine zv_aload_n G rfl rfl dX0_asks_60 ?_
  refine zv_aload_n G rfl rfl dX0_asks_61 ?_
  refine zc_putR (f := 28) G M (hPp tu11 rfl) rfl q2084 (Or.inl rfl) (Or.inl rfl) (zfty_28) (Or.inl ⟨_, rfl⟩) rfl dX0_asks_62 (fun u12 eu12 => ?_)
  have h := h u12 eu12
  refine zc_wk G hp (fun hu12 tu12 => ?_)
  refine zv_iconst (a := 0) G (by decide) dX0_asks_65 ?_
  exact zv_iret (ty := .boolean) (zr_k 0 (by decide) (by decide)) G M (zn_Z (Or.inl rfl)) dX0_asks_66 h
set_option maxHeartbeats 4000000 in
set_option maxRecDepth 100000 in
theorem cpC_X0_asks_34 {Γ : ZG CW} {D : CD} {d p : Nat} (hp : D.K.1 = p) (G : ZOk Γ cX0_asks RX0 5 (KnC D) (ZC D)) (M : ZRm Γ (d + 1) D.lim (Option.some Jvm.ClassFile.FieldType.boolean) "asks" [(44, 52, 53, 577)]) (S : SdC d D p Γ.l) (hl : Γ.l.stackTraces = false) (hk : 0 ≤ d) {x2 : Nat} {x3 : Nat} {w : CW} (h : pC_X0_asks_34 p (wpC p d) (fun v w => Γ.Q (.inl (some (ai v))) w) x2 x3 w) : ZV Γ w 34 [(0, ar p), (2, ar x2), (3, ar x3)] [] := by
  refine zc_wk G hp (fun hw tw => ?_)
  refine zv_aload_n G rfl rfl dX0_asks_34 ?_
  refine zc_get (f := 23) (v := ar (fR w 23 p)) G (hFp tw rfl) rfl q2079 (Or.inl rfl) (cV_R rfl) dX0_asks_35 ?_
  refine zv_iconst (a := 4) G (by decide) dX0_asks_38 ?_
  refine zv_dup2_11 G rfl rfl dX0_asks_39 ?_
  have o3 := h.1
  have h := h.2
  refine zc_ialdN G o3.1 (zr_k 4 (by decide) (by decide)) o3.2.1 o3.2.2 dX0_asks_40 ?_
  refine zv_iconst (a := 1) G (by decide) dX0_asks_41 ?_
  refine zv_iadd G dX0_asks_42 ?_
  have o5 := h.1
  have h := h.2
  refine zc_iast G o5.1 (zr_k 4 (by decide) (by decide)) (w32_r _) o5.2.1 o5.2.2 dX0_asks_43 (fun u4 eu4 => ?_)
  have h := h u4 eu4
  refine zc_wk G hp (fun hu4 tu4 => ?_)
  refine zv_aload_n G rfl rfl dX0_asks_44 ?_
  have o6 := h.1
  have h := h.2
  refine zc_get (f := 59) (v := ar (fR u4 59 x2)) G o6 rfl q812 (Or.inl rfl) (cV_R rfl) dX0_asks_45 ?_
  refine zv_aload_n G rfl rfl dX0_asks_48 ?_
  have o13 := h.1
  have h := h.2
  refine zv_callI (as := [ar (fR u4 59 x2), ar x3]) (st := []) G M (zc_eV (C := zcn 13) G q1936 q1937 q1938 (Or.inl ⟨rfl, rfl⟩) q1939 md_X15_holds (zc_rc G (zne tu4 o13 (by decide)) o13 (by decide) (by decide) rfl) rfl dX0_asks_49) (S 121 _ rfl _ _ _ h (zoks_cons trivial (zoks_cons trivial zoks_nil))) (Or.inl ⟨rfl, rfl⟩) (zc_hk q1939 q171) (by decide) (Nat.le_of_ble_eq_true rfl) (fun v8 u7 rv8 h => ?_) (fun x9 u10 h => ?_)
  rotate_left
  · have ht := h.1
    have h := h.2
    refine zx_catch G M (by rw [ht]; decide) (by rw [ht]; decide) (by rw [ht]; rfl) q1912 (by decide) (by decide) ?_
    refine zc_wk G hp (fun hu10 tu10 => ?_)
    exact zv_pick [0, 2] rfl (cpC_X0_asks_53 hp G M S hl hk h)
  refine zc_wk G hp (fun hu7 tu7 => ?_)
  exact zv_iret (ty := .boolean) rv8 G M (zn_Z h.1) dX0_asks_52 h.2
set_option maxHeartbeats 4000000 in
set_option maxRecDepth 100000 in
theorem cpC_X0_asks_0 {Γ : ZG CW} {D : CD} {d p : Nat} (hp : D.K.1 = p) (G : ZOk Γ cX0_asks RX0 5 (KnC D) (ZC D)) (M : ZRm Γ (d + 1) D.lim (Option.some Jvm.ClassFile.FieldType.boolean) "asks" [(44, 52, 53, 577)]) (S : SdC d D p Γ.l) (hl : Γ.l.stackTraces = false) (hk : 0 ≤ d) {x1 : Nat} {x2 : Nat} {x3 : Nat} {w : CW} (h : pC_X0_asks_0 p (wpC p d) (fun v w => Γ.Q (.inl (some (ai v))) w) x1 x2 x3 w) : ZV Γ w 0 [(0, ar p), (1, ar x1), (2, ar x2), (3, ar x3)] [] := by
  refine zc_wk G hp (fun hw tw => ?_)
  refine zv_aload_n G rfl rfl dX0_asks_0 ?_
  refine zc_get (f := 23) (v := ar (fR w 23 p)) G (hFp tw rfl) rfl q2079 (Or.inl rfl) (cV_R rfl) dX0_asks_1 ?_
  refine zv_iconst (a := 4) G (by decide) dX0_asks_4 ?_
  have o1 := h.1
  have h := h.2
  refine zc_ialdN G o1.1 (zr_k 4 (by decide) (by decide)) o1.2.1 o1.2.2 dX0_asks_5 ?_
  refine zv_bipush (a := 32) G (by decide) dX0_asks_6 ?_
  refine zv_icmp_ge (tgt := 34) G (aN_r hw _ _) (zr_k 32 (by decide) (by decide)) (by decide) dX0_asks_8 (fun c2 => ?_) (fun c2 => ?_)
  · have h := h.1 c2
    exact zv_pick [0, 2, 3] rfl (cpC_X0_asks_34 hp G M S hl hk h)
  · have h := h.2 c2
    refine zv_aload_n G rfl rfl dX0_asks_11 ?_
    refine zc_get (f := 24) (v := ar (fR w 24 p)) G (hFp tw rfl) rfl q2080 (Or.inl rfl) (cV_R rfl) dX0_asks_12 ?_
    refine zv_aload_n G rfl rfl dX0_asks_15 ?_
    refine zc_get (f := 23) (v := ar (fR w 23 p)) G (hFp tw rfl) rfl q2079 (Or.inl rfl) (cV_R rfl) dX0_asks_16 ?_
    refine zv_iconst (a := 4) G (by decide) dX0_asks_19 ?_
    have o14 := h.1
    have h := h.2
    refine zc_ialdN G o14.1 (zr_k 4 (by decide) (by decide)) o14.2.1 o14.2.2 dX0_asks_20 ?_
    refine zv_bipush (a := 100) G (by decide) dX0_asks_21 ?_
    refine zv_aload_n G rfl rfl dX0_asks_23 ?_
    have o15 := h.1
    have h := h.2
    refine zc_get (f := 43) (v := ai (fI w 43 x1)) G o15 rfl q744 (Or.inl rfl) (cV_I (by decide) (by decide)) dX0_asks_24 ?_
    refine zv_imul G dX0_asks_27 ?_
    refine zv_aload_n G rfl rfl dX0_asks_28 ?_
    have o16 := h.1
    have h := h.2
    refine zc_get (f := 56) (v := ai (fI w 56 x2)) G o16 rfl q805 (Or.inl rfl) (cV_I (by decide) (by decide)) dX0_asks_29 ?_
    refine zv_iadd G dX0_asks_32 ?_
    have o18 := h.1
    have h := h.2
    refine zc_iast G o18.1 (aN_r hw _ _) (w32_r _) o18.2.1 o18.2.2 dX0_asks_33 (fun u17 eu17 => ?_)
    have h := h u17 eu17
    refine zc_wk G hp (fun hu17 tu17 => ?_)
    exact zv_pick [0, 2, 3] rfl (cpC_X0_asks_34 hp G M S hl hk h)
set_option maxHeartbeats 4000000 in
set_option maxRecDepth 100000 in
theorem cpC_X0_plainly_104 {Γ : ZG CW} {D : CD} {d p : Nat} (hp : D.K.1 = p) (G : ZOk Γ cX0_plainly RX0 8 (KnC D) (ZC D)) (M : ZRm Γ (d + 1) D.lim (Option.some (Jvm.ClassFile.FieldType.object "LetterPost$Rule")) "plainly" []) (S : SdC d D p Γ.l) (hl : Γ.l.stackTraces = false) (hk : 0 ≤ d) {I3 : Int → CW → Prop} {x1 : Nat} {x2 : Nat} {x3 : Nat} {x4 : Int} {w : CW} (hI3 : ∀ (x4 : Int) (w : CW), I3 x4 w → zr x4 → ZV Γ w 3 [(0, ar p), (1, ar x1), (2, ar x2), (3, ar x3), (4, ai x4)] []) (rx4 : zr x4) (h : pC_X0_plainly_104 p (wpC p d) (fun v w => Γ.Q (.inl (some (ar v))) w) I3 x1 x2 x3 x4 w) : ZV Γ w 104 [(0, ar p), (1, ar x1), (2, ar x2), (3, ar x3), (4, ai x4)] [] := by
  refine zc_wk G hp (fun hw tw => ?_)
  refine zv_iincN G rfl (by decide) dX0_plainly_104 (fun x4_17 ex4_17 => ?_)
  have h := h x4_17 ex4_17
  have rx4_17 : zr x4_17 := by rw [ex4_17]; exact w32_r _
  refine zv_goto (tgt := 3) G (by decide) dX0_plainly_107 ?_
  exact zv_pick [0, 1, 2, 3, 4] rfl (hI3 _ _ h rx4_17)
set_option maxHeartbeats 4000000 in
set_option maxRecDepth 100000 in
theorem cpC_X0_plainly_101 {Γ : ZG CW} {D : CD} {d p : Nat} (hp : D.K.1 = p) (G : ZOk Γ cX0_plainly RX0 8 (KnC D) (ZC D)) (M : ZRm Γ (d + 1) D.lim (Option.some (Jvm.ClassFile.FieldType.object "LetterPost$Rule")) "plainly" []) (S : SdC d D p Γ.l) (hl : Γ.l.stackTraces = false) (hk : 0 ≤ d) {x5 : Nat} {w : CW} (h : pC_X0_plainly_101 p (wpC p d) (fun v w => Γ.Q (.inl (some (ar v))) w) x5 w) : ZV Γ w 101 [(5, ar x5)] [] := by
  refine zc_wk G hp (fun hw tw => ?_)
  refine zv_aload G rfl dX0_plainly_101 ?_
  exact zv_aret G M (Or.inl ⟨_, rfl⟩) dX0_plainly_103 h
set_option maxHeartbeats 4000000 in
set_option maxRecDepth 100000 in
theorem cpC_X0_plainly_77 {Γ : ZG CW} {D : CD} {d p : Nat} (hp : D.K.1 = p) (G : ZOk Γ cX0_plainly RX0 8 (KnC D) (ZC D)) (M : ZRm Γ (d + 1) D.lim (Option.some (Jvm.ClassFile.FieldType.object "LetterPost$Rule")) "plainly" []) (S : SdC d D p Γ.l) (hl : Γ.l.stackTraces = false) (hk : 0 ≤ d) {I3 : Int → CW → Prop} {x1 : Nat} {x2 : Nat} {x3 : Nat} {x4 : Int} {x5 : Nat} {x6 : Int} {w : CW} (hI3 : ∀ (x4 : Int) (w : CW), I3 x4 w → zr x4 → ZV Γ w 3 [(0, ar p), (1, ar x1), (2, ar x2), (3, ar x3), (4, ai x4)] []) (rx4 : zr x4) (rx6 : zr x6) (h : pC_X0_plainly_77 p (wpC p d) (fun v w => Γ.Q (.inl (some (ar v))) w) I3 x1 x2 x3 x4 x5 x6 w) : ZV Γ w 77 [(0, ar p), (1, ar x1), (2, ar x2), (3, ar x3), (4, ai x4), (5, ar x5), (6, ai x6)] [] := by
  refine zc_wk G hp (fun hw tw => ?_)
  refine zv_iload G rfl dX0_plainly_77 ?_
  refine zv_if_eq (tgt := 104) G rx6 (by decide) dX0_plainly_79 (fun c16 => ?_) (fun c16 => ?_)
  · have h := h.1 c16
    exact zv_pick [0, 1, 2, 3, 4] rfl (cpC_X0_plainly_104 hp G M S hl hk hI3 rx4 h)
  · have h := h.2 c16
    refine zv_aload G rfl dX0_plainly_82 ?_
    have o18 := h.1
    have h := h.2
    refine zc_get (f := 59) (v := ar (fR w 59 x5)) G o18 rfl q812 (Or.inl rfl) (cV_R rfl) dX0_plainly_84 ?_
    refine zv_ifnull (tgt := 101) G (by decide) dX0_plainly_87 (fun c19 => ?_) (fun c19 => ?_)
    · have h := h.1 c19
      exact zv_pick [5] rfl (cpC_X0_plainly_101 hp G M S hl hk h)
    · have h := h.2 c19
      refine zv_aload_n G rfl rfl dX0_plainly_90 ?_
      refine zv_aload_n G rfl rfl dX0_plainly_91 ?_
      refine zv_aload G rfl dX0_plainly_92 ?_
      refine zv_aload_n G rfl rfl dX0_plainly_94 ?_
      refine zv_callI (as := [ar p, ar x1, ar x5, ar x3]) (st := []) G M (zc_eV (C := zcn 1) G q1908 q1910 qs62 (Or.inr rfl) q1911 md_X0_asks (zc_rc G (zne tw tw.1 (by decide)) tw.1 (by decide) (by decide) rfl) rfl dX0_plainly_95) (S 71 _ rfl _ _ _ h (zoks_cons trivial (zoks_cons trivial (zoks_cons trivial (zoks_cons trivial zoks_nil))))) (Or.inr rfl) (zc_hk q1911 q143) (by decide) (Nat.le_of_ble_eq_true rfl) (fun v21 u20 rv21 h => ?_) (fun _ _ h => h.elim)
      refine zc_wk G hp (fun hu20 tu20 => ?_)
      refine zv_if_eq (tgt := 104) G rv21 (by decide) dX0_plainly_98 (fun c22 => ?_) (fun c22 => ?_)
      · have h := h.1 c22
        exact zv_pick [0, 1, 2, 3, 4] rfl (cpC_X0_plainly_104 hp G M S hl hk hI3 rx4 h)
      · have h := h.2 c22
        exact zv_pick [5] rfl (cpC_X0_plainly_101 hp G M S hl hk h)
set_option maxHeartbeats 4000000 in
set_option maxRecDepth 100000 in
theorem cpC_X0_plainly_39 {Γ : ZG CW} {D : CD} {d p : Nat} (hp : D.K.1 = p) (G : ZOk Γ cX0_plainly RX0 8 (KnC D) (ZC D)) (M : ZRm Γ (d + 1) D.lim (Option.some (Jvm.ClassFile.FieldType.object "LetterPost$Rule")) "plainly" []) (S : SdC d D p Γ.l) (hl : Γ.l.stackTraces = false) (hk : 0 ≤ d) {I3 : Int → CW → Prop} {x1 : Nat} {x2 : Nat} {x3 : Nat} {x4 : Int} {x5 : Nat} {x6 : Int} {x7 : Int} {w : CW} (hI3 : ∀ (x4 : Int) (w : CW), I3 x4 w → zr x4 → ZV Γ w 3 [(0, ar p), (1, ar x1), (2, ar x2), (3, ar x3), (4, ai x4)] []) (rx4 : zr x4) (rx6 : zr x6) (rx7 : zr x7) (h : pC_X0_plainly_39 p (wpC p d) (fun v w => Γ.Q (.inl (some (ar v))) w) I3 x1 x2 x3 x4 x5 x6 x7 w) : ZV Γ w 39 [(0, ar p), (1, ar x1), (2, ar x2), (3, ar x3), (4, ai x4), (5, ar x5), (6, ai x6), (7, ai x7)] [] := by
  obtain ⟨I39, eI39⟩ : ∃ I : Int → Int → CW → Prop, I = (fun x6 x7 w => zr x6 → zr x7 → ZV Γ w 39 [(0, ar p), (1, ar x1), (2, ar x2), (3, ar x3), (4, ai x4), (5, ar x5), (6, ai x6), (7, ai x7)] []) := ⟨_, rfl⟩
  have hI39 : ∀ (x6 : Int) (x7 : Int) (w : CW), I39 x6 x7 w → zr x6 → zr x7 → ZV Γ w 39 [(0, ar p), (1, ar x1), (2, ar x2), (3, ar x3), (4, ai x4), (5, ar x5), (6, ai x6), (7, ai x7)] [] := by subst eI39; exact fun _ _ _ z => z
  have hJ39 : ∀ (x6 : Int) (x7 : Int) (w : CW), (zr x6 → zr x7 → ZV Γ w 39 [(0, ar p), (1, ar x1), (2, ar x2), (3, ar x3), (4, ai x4), (5, ar x5), (6, ai x6), (7, ai x7)] []) → I39 x6 x7 w := by subst eI39; exact fun _ _ _ z => z
  refine hI39 x6 x7 w (h I39 (fun x6 x7 w h => hJ39 x6 x7 w (fun rx6 rx7 => ?_))) rx6 rx7
  refine zc_wk G hp (fun hw tw => ?_)
  refine zv_iload G rfl dX0_plainly_39 ?_
  refine zv_aload_n G rfl rfl dX0_plainly_41 ?_
  have o7 := h.1
  have h := h.2
  refine zc_get (f := 46) (v := ai (fI w 46 x1)) G o7 rfl q750 (Or.inl rfl) (cV_I (by decide) (by decide)) dX0_plainly_42 ?_
  have kt23 : ¬ ((fI w 46 x1) ≤ x7) ∧ (¬ (x6 = 0)) → ZV Γ w 53 [(0, ar p), (1, ar x1), (2, ar x2), (3, ar x3), (4, ai x4), (5, ar x5), (6, ai x6), (7, ai x7)] [] := by
    intro c25
    have h := h.1 c25
    refine zv_aload G rfl dX0_plainly_53 ?_
    have o8 := h.1
    have h := h.2
    refine zc_get (f := 58) (v := ar (fR w 58 x5)) G o8 rfl q809 (Or.inl rfl) (cV_R rfl) dX0_plainly_55 ?_
    refine zv_iload G rfl dX0_plainly_58 ?_
    have o9 := h.1
    have h := h.2
    refine zc_aald G o9.1 rx7 o9.2.1 o9.2.2 dX0_plainly_60 ?_
    refine zv_aload_n G rfl rfl dX0_plainly_61 ?_
    refine zv_iload G rfl dX0_plainly_62 ?_
    have o10 := h.1
    have h := h.2
    refine zc_aald G o10.1 rx7 o10.2.1 o10.2.2 dX0_plainly_64 ?_
    refine zv_aload_n G rfl rfl dX0_plainly_65 ?_
    have o14 := h.1
    have h := h.2
    have en15 : ZEn Γ w 66 [(0, ar p), (1, ar x1), (2, ar x2), (3, ar x3), (4, ai x4), (5, ar x5), (6, ai x6), (7, ai x7)] yX6_fits 3 [ar (aR w (fR w 58 x5) x7), ar (aR w x2 x7), ar x3] [] := by
      rcases o14 with z | z | z | z | z | z | z
      · exact (zc_eV (C := zcn 6) G q1983 q1984 q1986 (Or.inl ⟨rfl, rfl⟩) q1993 md_X6_fits (zc_rc G (zne tw z (by decide)) z (by decide) (by decide) rfl) rfl dX0_plainly_66)
      · exact (zc_eV (C := zcn 7) G q1983 q1984 q1990 (Or.inl ⟨rfl, rfl⟩) q1993 md_X6_fits (zc_rc G (zne tw z (by decide)) z (by decide) (by decide) rfl) rfl dX0_plainly_66)
      · exact (zc_eV (C := zcn 8) G q1983 q1984 q1988 (Or.inl ⟨rfl, rfl⟩) q1993 md_X6_fits (zc_rc G (zne tw z (by decide)) z (by decide) (by decide) rfl) rfl dX0_plainly_66)
      · exact (zc_eV (C := zcn 9) G q1983 q1984 q1987 (Or.inl ⟨rfl, rfl⟩) q1993 md_X6_fits (zc_rc G (zne tw z (by decide)) z (by decide) (by decide) rfl) rfl dX0_plainly_66)
      · exact (zc_eV (C := zcn 10) G q1983 q1984 q1992 (Or.inl ⟨rfl, rfl⟩) q1993 md_X6_fits (zc_rc G (zne tw z (by decide)) z (by decide) (by decide) rfl) rfl dX0_plainly_66)
      · exact (zc_eV (C := zcn 11) G q1983 q1984 q1991 (Or.inl ⟨rfl, rfl⟩) q1993 md_X6_fits (zc_rc G (zne tw z (by decide)) z (by decide) (by decide) rfl) rfl dX0_plainly_66)
      · exact (zc_eV (C := zcn 12) G q1983 q1984 q1989 (Or.inl ⟨rfl, rfl⟩) q1993 md_X6_fits (zc_rc G (zne tw z (by decide)) z (by decide) (by decide) rfl) rfl dX0_plainly_66)
    refine zv_callI (as := [ar (aR w (fR w 58 x5) x7), ar (aR w x2 x7), ar x3]) (st := []) G M en15 (S 94 _ rfl _ _ _ h (zoks_cons trivial (zoks_cons trivial (zoks_cons trivial zoks_nil)))) (Or.inl ⟨rfl, rfl⟩) (zc_hk q1993 q162) (by decide) (Nat.le_of_ble_eq_true rfl) (fun v12 u11 rv12 h => ?_) (fun _ _ h => h.elim)
    refine zc_wk G hp (fun hu11 tu11 => ?_)
    refine zv_istore G (by decide) rfl dX0_plainly_69 ?_
    refine zv_iincN G rfl (by decide) dX0_plainly_71 (fun x7_13 ex7_13 => ?_)
    have h := h x7_13 ex7_13
    have rx7_13 : zr x7_13 := by rw [ex7_13]; exact w32_r _
    refine zv_goto (tgt := 39) G (by decide) dX0_plainly_74 ?_
    exact zv_pick [0, 1, 2, 3, 4, 5, 6, 7] rfl (hI39 _ _ _ h rv12 rx7_13)
  have kf24 : ¬ (¬ ((fI w 46 x1) ≤ x7) ∧ (¬ (x6 = 0))) → ZV Γ w 77 [(0, ar p), (1, ar x1), (2, ar x2), (3, ar x3), (4, ai x4), (5, ar x5), (6, ai x6), (7, ai x7)] [] := by
    intro c25
    have h := h.2 c25
    exact zv_pick [0, 1, 2, 3, 4, 5, 6] rfl (cpC_X0_plainly_77 hp G M S hl hk hI3 rx4 rx6 h)
  refine zv_icmp_ge (tgt := 77) G rx7 (hw.i 46 _ (by decide)) (by decide) dX0_plainly_45 (fun c26 => ?_) (fun c26 => ?_)
  · exact kf24 (fun q => q.1 c26)
  · refine zv_iload G rfl dX0_plainly_48 ?_
    refine zv_if_eq (tgt := 77) G rx6 (by decide) dX0_plainly_50 (fun c27 => ?_) (fun c27 => ?_)
    · exact kf24 (fun q => (fun q => q c27) q.2)
    · exact kt23 ⟨c26, c27⟩
set_option maxHeartbeats 4000000 in
set_option maxRecDepth 100000 in
theorem cpC_X0_plainly_110 {Γ : ZG CW} {D : CD} {d p : Nat} (hp : D.K.1 = p) (G : ZOk Γ cX0_plainly RX0 8 (KnC D) (ZC D)) (M : ZRm Γ (d + 1) D.lim (Option.some (Jvm.ClassFile.FieldType.object "LetterPost$Rule")) "plainly" []) (S : SdC d D p Γ.l) (hl : Γ.l.stackTraces = false) (hk : 0 ≤ d) {w : CW} (h : pC_X0_plainly_110 p (wpC p d) (fun v w => Γ.Q (.inl (some (ar v))) w) w) : ZV Γ w 110 [(0, ar p)] [] := by
  refine zc_wk G hp (fun hw tw => ?_)
  refine zv_aload_n G rfl rfl dX0_plainly_110 ?_
  refine zv_aload_n G rfl rfl dX0_plainly_111 ?_
  refine zc_get (f := 27) (v := ai (fI w 27 p)) G (hFp tw rfl) rfl q2083 (Or.inl rfl) (cV_I (by decide) (by decide)) dX0_plainly_112 ?_
  have kj30 : ∀ v28 : Int, v28 = (if (fI w 27 p) = 0 then 1 else fI w 27 p) → ZV Γ w 126 [(0, ar p)] (ai v28 :: ar p :: []) := by
    intro v28 ev28
    have h := h v28 ev28
    have rv28 : zr v28 := by rw [ev28]; exact (zr_ite (zr_k 1 (by decide) (by decide)) (hw.i 27 _ (by decide)))
    refine zc_putI (f := 27) G M (hPp tw rfl) rfl q2083 (Or.inl rfl) (Or.inl rfl) (zfty_27) rfl rfl (by decide) (by decide) rv28 dX0_plainly_126 (fun u29 eu29 => ?_)
    have h := h u29 eu29
    refine zc_wk G hp (fun hu29 tu29 => ?_)
    refine zv_null G dX0_plainly_129 ?_
    exact zv_aret G M (Or.inl ⟨_, rfl⟩) dX0_plainly_130 h
  refine zv_if_ne (tgt := 122) G (hw.i 27 _ (by decide)) (by decide) dX0_plainly_115 (fun c31 => ?_) (fun c31 => ?_)
  · refine zv_aload_n G rfl rfl dX0_plainly_122 ?_
    refine zc_get (f := 27) (v := ai (fI w 27 p)) G (hFp tw rfl) rfl q2083 (Or.inl rfl) (cV_I (by decide) (by decide)) dX0_plainly_123 ?_
    exact kj30 _ (if_neg c31).symm
  · refine zv_iconst (a := 1) G (by decide) dX0_plainly_118 ?_
    refine zv_goto (tgt := 126) G (by decide) dX0_plainly_119 ?_
    exact kj30 _ (if_pos c31).symm
set_option maxHeartbeats 4000000 in
set_option maxRecDepth 100000 in
theorem cpC_X0_plainly_3 {Γ : ZG CW} {D : CD} {d p : Nat} (hp : D.K.1 = p) (G : ZOk Γ cX0_plainly RX0 8 (KnC D) (ZC D)) (M : ZRm Γ (d + 1) D.lim (Option.some (Jvm.ClassFile.FieldType.object "LetterPost$Rule")) "plainly" []) (S : SdC d D p Γ.l) (hl : Γ.l.stackTraces = false) (hk : 0 ≤ d) {x1 : Nat} {x2 : Nat} {x3 : Nat} {x4 : Int} {w : CW} (rx4 : zr x4) (h : pC_X0_plainly_3 p (wpC p d) (fun v w => Γ.Q (.inl (some (ar v))) w) x1 x2 x3 x4 w) : ZV Γ w 3 [(0, ar p), (1, ar x1), (2, ar x2), (3, ar x3), (4, ai x4)] [] := by
  obtain ⟨I3, eI3⟩ : ∃ I : Int → CW → Prop, I = (fun x4 w => zr x4 → ZV Γ w 3 [(0, ar p), (1, ar x1), (2, ar x2), (3, ar x3), (4, ai x4)] []) := ⟨_, rfl⟩
  have hI3 : ∀ (x4 : Int) (w : CW), I3 x4 w → zr x4 → ZV Γ w 3 [(0, ar p), (1, ar x1), (2, ar x2), (3, ar x3), (4, ai x4)] [] := by subst eI3; exact fun _ _ z => z
  have hJ3 : ∀ (x4 : Int) (w : CW), (zr x4 → ZV Γ w 3 [(0, ar p), (1, ar x1), (2, ar x2), (3, ar x3), (4, ai x4)] []) → I3 x4 w := by subst eI3; exact fun _ _ z => z
  refine hI3 x4 w (h I3 (fun x4 w h => hJ3 x4 w (fun rx4 => ?_))) rx4
  refine zc_wk G hp (fun hw tw => ?_)
  refine zv_iload G rfl dX0_plainly_3 ?_
  refine zv_aload_n G rfl rfl dX0_plainly_5 ?_
  have o1 := h.1
  have h := h.2
  refine zc_get (f := 48) (v := ai (fI w 48 x1)) G o1 rfl q754 (Or.inl rfl) (cV_I (by decide) (by decide)) dX0_plainly_6 ?_
  have kt32 : ¬ ((fI w 48 x1) ≤ x4) ∧ ((fI w 27 p) = 0) → ZV Γ w 19 [(0, ar p), (1, ar x1), (2, ar x2), (3, ar x3), (4, ai x4)] [] := by
    intro c34
    have h := h.1 c34
    refine zv_aload_n G rfl rfl dX0_plainly_19 ?_
    have o2 := h.1
    have h := h.2
    refine zc_get (f := 47) (v := ar (fR w 47 x1)) G o2 rfl q752 (Or.inl rfl) (cV_R rfl) dX0_plainly_20 ?_
    refine zv_iload G rfl dX0_plainly_23 ?_
    have o3 := h.1
    have h := h.2
    refine zc_aald G o3.1 rx4 o3.2.1 o3.2.2 dX0_plainly_25 ?_
    refine zv_astoreN G (by decide) dX0_plainly_26 (fun x5_4 ex5_4 => ?_)
    have h := h x5_4 ex5_4
    refine zv_iconst (a := 1) G (by decide) dX0_plainly_28 ?_
    refine zv_istore G (by decide) rfl dX0_plainly_29 ?_
    refine zv_aload_n G rfl rfl dX0_plainly_31 ?_
    refine zv_null G dX0_plainly_32 ?_
    refine zv_callV (as := [ar x3, ar 0]) (st := []) G M (zc_eS G q1980 q1981 q154 q1982 md_J8_fill rfl dX0_plainly_33) (S 237 _ rfl _ _ _ h (zoks_cons trivial (zoks_cons trivial zoks_nil))) (Or.inl ⟨rfl, rfl⟩) (zc_hk q1982 q154) (by decide) (Nat.le_of_ble_eq_true rfl) (fun u5 h => ?_) (fun _ _ h => h.elim)
    refine zc_wk G hp (fun hu5 tu5 => ?_)
    refine zv_iconst (a := 0) G (by decide) dX0_plainly_36 ?_
    refine zv_istore G (by decide) rfl dX0_plainly_37 ?_
    exact zv_pick [0, 1, 2, 3, 4, 5, 6, 7] rfl (cpC_X0_plainly_39 hp G M S hl hk hI3 rx4 (zr_k 1 (by decide) (by decide)) (zr_k 0 (by decide) (by decide)) h)
  have kf33 : ¬ (¬ ((fI w 48 x1) ≤ x4) ∧ ((fI w 27 p) = 0)) → ZV Γ w 110 [(0, ar p), (1, ar x1), (2, ar x2), (3, ar x3), (4, ai x4)] [] := by
    intro c34
    have h := h.2 c34
    exact zv_pick [0] rfl (cpC_X0_plainly_110 hp G M S hl hk h)
  refine zv_icmp_ge (tgt := 110) G rx4 (hw.i 48 _ (by decide)) (by decide) dX0_plainly_9 (fun c35 => ?_) (fun c35 => ?_)
  · exact kf33 (fun q => q.1 c35)
  · refine zv_aload_n G rfl rfl dX0_plainly_12 ?_
    refine zc_get (f := 27) (v := ai (fI w 27 p)) G (hFp tw rfl) rfl q2083 (Or.inl rfl) (cV_I (by decide) (by decide)) dX0_plainly_13 ?_
    refine zv_if_ne (tgt := 110) G (hw.i 27 _ (by decide)) (by decide) dX0_plainly_16 (fun c36 => ?_) (fun c36 => ?_)
    · exact kf33 (fun q => c36 q.2)
    · exact kt32 ⟨c35, c36⟩
set_option maxHeartbeats 4000000 in
set_option maxRecDepth 100000 in
theorem cpC_X0_plainly_0 {Γ : ZG CW} {D : CD} {d p : Nat} (hp : D.K.1 = p) (G : ZOk Γ cX0_plainly RX0 8 (KnC D) (ZC D)) (M : ZRm Γ (d + 1) D.lim (Option.some (Jvm.ClassFile.FieldType.object "LetterPost$Rule")) "plainly" []) (S : SdC d D p Γ.l) (hl : Γ.l.stackTraces = false) (hk : 0 ≤ d) {x1 : Nat} {x2 : Nat} {x3 : Nat} {w : CW} (h : pC_X0_plainly_0 p (wpC p d) (fun v w => Γ.Q (.inl (some (ar v))) w) x1 x2 x3 w) : ZV Γ w 0 [(0, ar p), (1, ar x1), (2, ar x2), (3, ar x3)] [] := by
  refine zc_wk G hp (fun hw tw => ?_)
  refine zv_iconst (a := 0) G (by decide) dX0_plainly_0 ?_
  refine zv_istore G (by decide) rfl dX0_plainly_1 ?_
  exact zv_pick [0, 1, 2, 3, 4] rfl (cpC_X0_plainly_3 hp G M S hl hk (zr_k 0 (by decide) (by decide)) h)
set_option maxHeartbeats 4000000 in
set_option maxRecDepth 100000 in
theorem cpC_X0_ends_0 {Γ : ZG CW} {D : CD} {d p : Nat} (hp : D.K.1 = p) (G : ZOk Γ cX0_ends RX0 5 (KnC D) (ZC D)) (M : ZRm Γ (d + 1) D.lim (Option.none : Option Jvm.ClassFile.FieldType) "ends" []) (S : SdC d D p Γ.l) (hl : Γ.l.stackTraces = false) (hk : 0 ≤ d) {x1 : Int} {x2 : Int} {x3 : Nat} {x4 : Int} {w : CW} (rx1 : zr x1) (rx2 : zr x2) (rx4 : zr x4) (h : pC_X0_ends_0 p (wpC p d) (fun w => Γ.Q (.inl none) w) x1 x2 x3 x4 w) : ZV Γ w 0 [(0, ar p), (1, ai x1), (2, ai x2), (3, ar x3), (4, ai x4)] [] := by
  refine zc_wk G hp (fun hw tw => ?_)
  refine zv_aload_n G rfl rfl dX0_ends_0 ?_
  refine zc_get (f := 23) (v := ar (fR w 23 p)) G (hFp tw rfl) rfl q2079 (Or.inl rfl) (cV_R rfl) dX0_ends_1 ?_
  refine zv_iconst (a := 0) G (by decide) dX0_ends_4 ?_
  refine zv_iload_n G rfl rfl dX0_ends_5 ?_
  have o2 := h.1
  have h := h.2
  refine zc_iast G o2.1 (zr_k 0 (by decide) (by decide)) rx1 o2.2.1 o2.2.2 dX0_ends_6 (fun u1 eu1 => ?_)
  have h := h u1 eu1
  refine zc_wk G hp (fun hu1 tu1 => ?_)
  refine zv_aload_n G rfl rfl dX0_ends_7 ?_
  refine zc_get (f := 23) (v := ar (fR u1 23 p)) G (hFp tu1 rfl) rfl q2079 (Or.inl rfl) (cV_R rfl) dX0_ends_8 ?_
  refine zv_iconst (a := 1) G (by decide) dX0_ends_11 ?_
  refine zv_iload_n G rfl rfl dX0_ends_12 ?_
  have o4 := h.1
  have h := h.2
  refine zc_iast G o4.1 (zr_k 1 (by decide) (by decide)) rx2 o4.2.1 o4.2.2 dX0_ends_13 (fun u3 eu3 => ?_)
  have h := h u3 eu3
  refine zc_wk G hp (fun hu3 tu3 => ?_)
  refine zv_aload_n G rfl rfl dX0_ends_14 ?_
  refine zc_get (f := 23) (v := ar (fR u3 23 p)) G (hFp tu3 rfl) rfl q2079 (Or.inl rfl) (cV_R rfl) dX0_ends_15 ?_
  refine zv_iconst (a := 5) G (by decide) dX0_ends_18 ?_
  refine zv_aload_n G rfl rfl dX0_ends_19 ?_
  have o5 := h.1
  have h := h.2
  refine zc_get (f := 43) (v := ai (fI u3 43 x3)) G o5 rfl q744 (Or.inl rfl) (cV_I (by decide) (by decide)) dX0_ends_20 ?_
  have o7 := h.1
  have h := h.2
  refine zc_iast G o7.1 (zr_k 5 (by decide) (by decide)) (hu3.i 43 _ (by decide)) o7.2.1 o7.2.2 dX0_ends_23 (fun u6 eu6 => ?_)
  have h := h u6 eu6
  refine zc_wk G hp (fun hu6 tu6 => ?_)
  refine zv_aload_n G rfl rfl dX0_ends_24 ?_
  refine zc_get (f := 23) (v := ar (fR u6 23 p)) G (hFp tu6 rfl) rfl q2079 (Or.inl rfl) (cV_R rfl) dX0_ends_25 ?_
  refine zv_bipush (a := 6) G (by decide) dX0_ends_28 ?_
  refine zv_iload G rfl dX0_ends_30 ?_
  have o9 := h.1
  have h := h.2
  refine zc_iast G o9.1 (zr_k 6 (by decide) (by decide)) rx4 o9.2.1 o9.2.2 dX0_ends_32 (fun u8 eu8 => ?_)
  have h := h u8 eu8
  refine zc_wk G hp (fun hu8 tu8 => ?_)
  exact zv_vret G M dX0_ends_33 h
set_option maxHeartbeats 4000000 in
set_option maxRecDepth 100000 in
theorem cpC_X0_plain_2_0 {Γ : ZG CW} {D : CD} {d p : Nat} (hp : D.K.1 = p) (G : ZOk Γ cX0_plain_2 RX0 5 (KnC D) (ZC D)) (M : ZRm Γ (d + 1) D.lim (Option.some Jvm.ClassFile.FieldType.int) "plain" []) (S : SdC d D p Γ.l) (hl : Γ.l.stackTraces = false) (hk : 0 ≤ d) {x1 : Int} {x2 : Int} {x3 : Int} {x4 : Int} {w : CW} (rx1 : zr x1) (rx2 : zr x2) (rx3 : zr x3) (rx4 : zr x4) (h : pC_X0_plain_2_0 p (wpC p d) (fun v w => Γ.Q (.inl (some (ai v))) w) x1 x2 x3 x4 w) : ZV Γ w 0 [(0, ar p), (1, ai x1), (2, ai x2), (3, ai x3), (4, ai x4)] [] := by
  refine zc_wk G hp (fun hw tw => ?_)
  refine zv_aload_n G rfl rfl dX0_plain_2_0 ?_
  refine zv_iload_n G rfl rfl dX0_plain_2_1 ?_
  refine zv_iload_n G rfl rfl dX0_plain_2_2 ?_
  refine zv_iload_n G rfl rfl dX0_plain_2_3 ?_
  refine zv_iload G rfl dX0_plain_2_4 ?_
  refine zv_iconst (a := 0) G (by decide) dX0_plain_2_6 ?_
  refine zv_callI (as := [ar p, ai x1, ai x2, ai x3, ai x4, ai 0]) (st := []) G M (zc_eV (C := zcn 1) G q1882 q1884 qs59 (Or.inl ⟨rfl, rfl⟩) q1885 md_X0_sorts (zc_rc G (zne tw tw.1 (by decide)) tw.1 (by decide) (by decide) rfl) rfl dX0_plain_2_7) (S 68 _ rfl _ _ _ h (zoks_cons trivial (zoks_cons rx1 (zoks_cons rx2 (zoks_cons rx3 (zoks_cons rx4 (zoks_cons (zr_k 0 (by decide) (by decide)) zoks_nil))))))) (Or.inl ⟨rfl, rfl⟩) (zc_hk q1885 q143) (by decide) (Nat.le_of_ble_eq_true rfl) (fun v2 u1 rv2 h => ?_) (fun _ _ h => h.elim)
  refine zc_wk G hp (fun hu1 tu1 => ?_)
  exact zv_iret (ty := .int) rv2 G M rfl dX0_plain_2_10 h
set_option maxHeartbeats 4000000 in
set_option maxRecDepth 100000 in
theorem cpC_X0_told_0 {Γ : ZG CW} {D : CD} {d p : Nat} (hp : D.K.1 = p) (G : ZOk Γ cX0_told RX0 2 (KnC D) (ZC D)) (M : ZRm Γ (d + 1) D.lim (Option.some Jvm.ClassFile.FieldType.int) "told" []) (S : SdC d D p Γ.l) (hl : Γ.l.stackTraces = false) (hk : 0 ≤ d) {x1 : Int} {w : CW} (rx1 : zr x1) (h : pC_X0_told_0 p (wpC p d) (fun v w => Γ.Q (.inl (some (ai v))) w) x1 w) : ZV Γ w 0 [(0, ar p), (1, ai x1)] [] := by
  refine zc_wk G hp (fun hw tw => ?_)
  refine zv_iload_n G rfl rfl dX0_told_0 ?_
  refine zv_i2l G rx1 dX0_told_1 ?_
  refine zv_lconst (a := 0) G (by decide) dX0_told_2 ?_
  refine zv_ldc2 (a := 6) G (G.kn.2.1 _ q1832 _) (by decide) dX0_told_3 ?_
  refine zv_callI (as := [al x1, al 0, al 6]) (st := []) G M (zc_eS G q199 q200 q143 q201 md_X0_isIn rfl dX0_told_6) (S 1 _ rfl _ _ _ h (zoks_cons (zrl_i rx1) (zoks_cons (zrl_k 0 (by decide) (by decide)) (zoks_cons (zrl_k 6 (by decide) (by decide)) zoks_nil)))) (Or.inl ⟨rfl, rfl⟩) (zc_hk q201 q143) (by decide) (Nat.le_of_ble_eq_true rfl) (fun v2 u1 rv2 h => ?_) (fun _ _ h => h.elim)
  refine zc_wk G hp (fun hu1 tu1 => ?_)
  have o4 := h.1
  have h := h.2
  have kj5 : ∀ v3 : Int, v3 = (if ¬ (v2 = 0) then aN u1 (fR u1 23 p) x1 else (-1)) → ZV Γ u1 22 [(0, ar p), (1, ai x1)] (ai v3 :: []) := by
    intro v3 ev3
    have h := h v3 ev3
    have rv3 : zr v3 := by rw [ev3]; exact (zr_ite (aN_r hu1 _ _) (zr_k (-1) (by decide) (by decide)))
    exact zv_iret (ty := .int) rv3 G M rfl dX0_told_22 h
  refine zv_if_eq (tgt := 21) G rv2 (by decide) dX0_told_9 (fun c6 => ?_) (fun c6 => ?_)
  · refine zv_iconst (a := (-1)) G (by decide) dX0_told_21 ?_
    exact kj5 _ (if_neg (fun q => q c6)).symm
  · refine zv_aload_n G rfl rfl dX0_told_12 ?_
    refine zc_get (f := 23) (v := ar (fR u1 23 p)) G (hFp tu1 rfl) rfl q2079 (Or.inl rfl) (cV_R rfl) dX0_told_13 ?_
    refine zv_iload_n G rfl rfl dX0_told_16 ?_
    refine zc_ialdN G (o4 c6).1 rx1 (o4 c6).2.1 (o4 c6).2.2 dX0_told_17 ?_
    refine zv_goto (tgt := 22) G (by decide) dX0_told_18 ?_
    exact kj5 _ (if_pos c6).symm
set_option maxHeartbeats 4000000 in
set_option maxRecDepth 100000 in
theorem cpC_X0_guard_2_0 {Γ : ZG CW} {D : CD} {d p : Nat} (hp : D.K.1 = p) (G : ZOk Γ cX0_guard_2 RX0 2 (KnC D) (ZC D)) (M : ZRm Γ (d + 1) D.lim (Option.some Jvm.ClassFile.FieldType.int) "guard" []) (S : SdC d D p Γ.l) (hl : Γ.l.stackTraces = false) (hk : 0 ≤ d) {x1 : Int} {w : CW} (rx1 : zr x1) (h : pC_X0_guard_2_0 p (wpC p d) (fun v w => Γ.Q (.inl (some (ai v))) w) x1 w) : ZV Γ w 0 [(0, ar p), (1, ai x1)] [] := by
  refine zc_wk G hp (fun hw tw => ?_)
  refine zv_iload_n G rfl rfl dX0_guard_2_0 ?_
  refine zv_i2l G rx1 dX0_guard_2_1 ?_
  refine zv_lconst (a := 0) G (by decide) dX0_guard_2_2 ?_
  refine zv_aload_n G rfl rfl dX0_guard_2_3 ?_
  refine zc_get (f := 23) (v := ar (fR w 23 p)) G (hFp tw rfl) rfl q2079 (Or.inl rfl) (cV_R rfl) dX0_guard_2_4 ?_
  refine zv_iconst (a := 4) G (by decide) dX0_guard_2_7 ?_
  have o1 := h.1
  have h := h.2
  refine zc_ialdN G o1.1 (zr_k 4 (by decide) (by decide)) o1.2.1 o1.2.2 dX0_guard_2_8 ?_
  refine zv_bipush (a := 32) G (by decide) dX0_guard_2_9 ?_
  refine zc_mmin G M q1086 q385 q153 q386 (aN_r hw _ _) (zr_k 32 (by decide) (by decide)) (Nat.le_of_ble_eq_true rfl) dX0_guard_2_11 ?_
  refine zv_iconst (a := 1) G (by decide) dX0_guard_2_14 ?_
  refine zv_isub G dX0_guard_2_15 ?_
  refine zv_i2l G (w32_r _) dX0_guard_2_16 ?_
  refine zv_callI (as := [al x1, al 0, al (w32 ((if (32 : Int) < (aN w (fR w 23 p) 4) then 32 else (aN w (fR w 23 p) 4)) - 1))]) (st := []) G M (zc_eS G q199 q200 q143 q201 md_X0_isIn rfl dX0_guard_2_17) (S 1 _ rfl _ _ _ h (zoks_cons (zrl_i rx1) (zoks_cons (zrl_k 0 (by decide) (by decide)) (zoks_cons (zrl_i (w32_r _)) zoks_nil)))) (Or.inl ⟨rfl, rfl⟩) (zc_hk q201 q143) (by decide) (Nat.le_of_ble_eq_true rfl) (fun v3 u2 rv3 h => ?_) (fun _ _ h => h.elim)
  refine zc_wk G hp (fun hu2 tu2 => ?_)
  have o5 := h.1
  have h := h.2
  have kj6 : ∀ v4 : Int, v4 = (if ¬ (v3 = 0) then aN u2 (fR u2 24 p) x1 else (-4)) → ZV Γ u2 34 [(0, ar p), (1, ai x1)] (ai v4 :: []) := by
    intro v4 ev4
    have h := h v4 ev4
    have rv4 : zr v4 := by rw [ev4]; exact (zr_ite (aN_r hu2 _ _) (zr_k (-4) (by decide) (by decide)))
    exact zv_iret (ty := .int) rv4 G M rfl dX0_guard_2_34 h
  refine zv_if_eq (tgt := 32) G rv3 (by decide) dX0_guard_2_20 (fun c7 => ?_) (fun c7 => ?_)
  · refine zv_bipush (a := (-4)) G (by decide) dX0_guard_2_32 ?_
    exact kj6 _ (if_neg (fun q => q c7)).symm
  · refine zv_aload_n G rfl rfl dX0_guard_2_23 ?_
    refine zc_get (f := 24) (v := ar (fR u2 24 p)) G (hFp tu2 rfl) rfl q2080 (Or.inl rfl) (cV_R rfl) dX0_guard_2_24 ?_
    refine zv_iload_n G rfl rfl dX0_guard_2_27 ?_
    refine zc_ialdN G (o5 c7).1 rx1 (o5 c7).2.1 (o5 c7).2.2 dX0_guard_2_28 ?_
    refine zv_goto (tgt := 34) G (by decide) dX0_guard_2_29 ?_
    exact kj6 _ (if_pos c7).symm
set_option maxHeartbeats 4000000 in
set_option maxRecDepth 100000 in
theorem cpC_X0_bound_33 {Γ : ZG CW} {D : CD} {d p : Nat} (hp : D.K.1 = p) (G : ZOk Γ cX0_bound RX0 3 (KnC D) (ZC D)) (M : ZRm Γ (d + 1) D.lim (Option.some Jvm.ClassFile.FieldType.int) "bound" []) (S : SdC d D p Γ.l) (hl : Γ.l.stackTraces = false) (hk : 0 ≤ d) {x1 : Int} {s0 : Int} {w : CW} (rx1 : zr x1) (rs0 : zr s0) (h : pC_X0_bound_33 p (wpC p d) (fun v w => Γ.Q (.inl (some (ai v))) w) x1 s0 w) : ZV Γ w 33 [(0, ar p), (1, ai x1)] [ai s0] := by
  refine zc_wk G hp (fun hw tw => ?_)
  refine zv_istore_n G rfl (by decide) rfl dX0_bound_33 ?_
  refine zv_iload_n G rfl rfl dX0_bound_34 ?_
  have o3 := h.1
  have h := h.2
  have kj4 : ∀ v2 : Int, v2 = (if ¬ (s0 = 0) then fI w 113 (aR w (fR w 26 p) x1) else (-4)) → ZV Γ w 52 [(2, ai s0), (0, ar p), (1, ai x1)] (ai v2 :: []) := by
    intro v2 ev2
    have h := h v2 ev2
    have rv2 : zr v2 := by rw [ev2]; exact (zr_ite (hw.i 113 _ (by decide)) (zr_k (-4) (by decide) (by decide)))
    exact zv_iret (ty := .int) rv2 G M rfl dX0_bound_52 h
  refine zv_if_eq (tgt := 50) G rs0 (by decide) dX0_bound_35 (fun c5 => ?_) (fun c5 => ?_)
  · refine zv_bipush (a := (-4)) G (by decide) dX0_bound_50 ?_
    exact kj4 _ (if_neg (fun q => q c5)).symm
  · refine zv_aload_n G rfl rfl dX0_bound_38 ?_
    refine zc_get (f := 26) (v := ar (fR w 26 p)) G (hFp tw rfl) rfl q2082 (Or.inl rfl) (cV_R rfl) dX0_bound_39 ?_
    refine zv_iload_n G rfl rfl dX0_bound_42 ?_
    refine zc_aald G (o3 c5).1.1 rx1 (o3 c5).1.2.1 (o3 c5).1.2.2 dX0_bound_43 ?_
    refine zc_get (f := 113) (v := ai (fI w 113 (aR w (fR w 26 p) x1))) G (o3 c5).2 rfl q1708 (Or.inl rfl) (cV_I (by decide) (by decide)) dX0_bound_44 ?_
    refine zv_goto (tgt := 52) G (by decide) dX0_bound_47 ?_
    exact kj4 _ (if_pos c5).symm
set_option maxHeartbeats 4000000 in
set_option maxRecDepth 100000 in
theorem cpC_X0_bound_32 {Γ : ZG CW} {D : CD} {d p : Nat} (hp : D.K.1 = p) (G : ZOk Γ cX0_bound RX0 3 (KnC D) (ZC D)) (M : ZRm Γ (d + 1) D.lim (Option.some Jvm.ClassFile.FieldType.int) "bound" []) (S : SdC d D p Γ.l) (hl : Γ.l.stackTraces = false) (hk : 0 ≤ d) {x1 : Int} {w : CW} (rx1 : zr x1) (h : pC_X0_bound_32 p (wpC p d) (fun v w => Γ.Q (.inl (some (ai v))) w) x1 w) : ZV Γ w 32 [(0, ar p), (1, ai x1)] [] := by
  refine zc_wk G hp (fun hw tw => ?_)
  refine zv_iconst (a := 0) G (by decide) dX0_bound_32 ?_
  exact zv_pick [0, 1] rfl (cpC_X0_bound_33 hp G M S hl hk rx1 (zr_k 0 (by decide) (by decide)) h)
set_option maxHeartbeats 4000000 in
set_option maxRecDepth 100000 in
theorem cpC_X0_bound_0 {Γ : ZG CW} {D : CD} {d p : Nat} (hp : D.K.1 = p) (G : ZOk Γ cX0_bound RX0 3 (KnC D) (ZC D)) (M : ZRm Γ (d + 1) D.lim (Option.some Jvm.ClassFile.FieldType.int) "bound" []) (S : SdC d D p Γ.l) (hl : Γ.l.stackTraces = false) (hk : 0 ≤ d) {x1 : Int} {w : CW} (rx1 : zr x1) (h : pC_X0_bound_0 p (wpC p d) (fun v w => Γ.Q (.inl (some (ai v))) w) x1 w) : ZV Γ w 0 [(0, ar p), (1, ai x1)] [] := by
  refine zc_wk G hp (fun hw tw => ?_)
  refine zv_aload_n G rfl rfl dX0_bound_0 ?_
  refine zc_get (f := 25) (v := ar (fR w 25 p)) G (hFp tw rfl) rfl q2081 (Or.inl rfl) (cV_R rfl) dX0_bound_1 ?_
  refine zv_ifnull (tgt := 32) G (by decide) dX0_bound_4 (fun c1 => ?_) (fun c1 => ?_)
  · have h := h.1 c1
    exact zv_pick [0, 1] rfl (cpC_X0_bound_32 hp G M S hl hk rx1 h)
  · have h := h.2 c1
    refine zv_iload_n G rfl rfl dX0_bound_7 ?_
    refine zv_i2l G rx1 dX0_bound_8 ?_
    refine zv_lconst (a := 0) G (by decide) dX0_bound_9 ?_
    refine zv_ldc2 (a := 7) G (G.kn.2.1 _ q1572 _) (by decide) dX0_bound_10 ?_
    refine zv_callI (as := [al x1, al 0, al 7]) (st := []) G M (zc_eS G q199 q200 q143 q201 md_X0_isIn rfl dX0_bound_13) (S 1 _ rfl _ _ _ h (zoks_cons (zrl_i rx1) (zoks_cons (zrl_k 0 (by decide) (by decide)) (zoks_cons (zrl_k 7 (by decide) (by decide)) zoks_nil)))) (Or.inl ⟨rfl, rfl⟩) (zc_hk q201 q143) (by decide) (Nat.le_of_ble_eq_true rfl) (fun v7 u6 rv7 h => ?_) (fun _ _ h => h.elim)
    refine zc_wk G hp (fun hu6 tu6 => ?_)
    have o8 := h.1
    have h := h.2
    have kt9 : ¬ (v7 = 0) ∧ (¬ ((aR u6 (fR u6 26 p) x1) = 0)) → ZV Γ u6 28 [(0, ar p), (1, ai x1)] [] := by
      intro c11
      have h := h.1 c11
      refine zv_iconst (a := 1) G (by decide) dX0_bound_28 ?_
      refine zv_goto (tgt := 33) G (by decide) dX0_bound_29 ?_
      exact zv_pick [0, 1] rfl (cpC_X0_bound_33 hp G M S hl hk rx1 (zr_k 1 (by decide) (by decide)) h)
    have kf10 : ¬ (¬ (v7 = 0) ∧ (¬ ((aR u6 (fR u6 26 p) x1) = 0))) → ZV Γ u6 32 [(0, ar p), (1, ai x1)] [] := by
      intro c11
      have h := h.2 c11
      exact zv_pick [0, 1] rfl (cpC_X0_bound_32 hp G M S hl hk rx1 h)
    refine zv_if_eq (tgt := 32) G rv7 (by decide) dX0_bound_16 (fun c12 => ?_) (fun c12 => ?_)
    · exact kf10 (fun q => q.1 c12)
    · refine zv_aload_n G rfl rfl dX0_bound_19 ?_
      refine zc_get (f := 26) (v := ar (fR u6 26 p)) G (hFp tu6 rfl) rfl q2082 (Or.inl rfl) (cV_R rfl) dX0_bound_20 ?_
      refine zv_iload_n G rfl rfl dX0_bound_23 ?_
      refine zc_aald G (o8 c12).1 rx1 (o8 c12).2.1 (o8 c12).2.2 dX0_bound_24 ?_
      refine zv_ifnull (tgt := 32) G (by decide) dX0_bound_25 (fun c13 => ?_) (fun c13 => ?_)
      · exact kf10 (fun q => (fun q => q c13) q.2)
      · exact kt9 ⟨c12, c13⟩
set_option maxHeartbeats 4000000 in
set_option maxRecDepth 100000 in
theorem cpC_X0_init_0 {Γ : ZG CW} {D : CD} {d p : Nat} (hp : D.K.1 = p) (G : ZOk Γ cX0_init RX0 1 (KnC D) (ZC D)) (M : ZRm Γ (d + 1) D.lim (Option.none : Option Jvm.ClassFile.FieldType) "<init>" []) (S : SdC d D p Γ.l) (hl : Γ.l.stackTraces = false) (hk : 0 ≤ d) {w : CW} (h : pC_X0_init_0 p (wpC p d) (fun w => Γ.Q (.inl none) w) w) : ZV Γ w 0 [(0, ar p)] [] := by
  refine zc_wk G hp (fun hw tw => ?_)
  refine zv_aload_n G rfl rfl dX0_init_0 ?_
  refine zc_oinit G M q2051 q262 q263 tw.2.1 (Nat.le_of_ble_eq_true rfl) dX0_init_1 ?_
  refine zv_aload_n G rfl rfl dX0_init_4 ?_
  refine zv_bipush (a := 24) G (by decide) dX0_init_5 ?_
  have o3 := h.1
  have h := h.2
  refine zc_anew (t := 112) G M (by decide) q676 o3.1 o3.2 dX0_init_7 (fun u2 eu2 => ?_)
  have h := h u2 eu2
  refine zc_wk G hp (fun hu2 tu2 => ?_)
  refine zc_putR (f := 0) G M (hPp tu2 rfl) rfl q2053 (Or.inl rfl) (Or.inl rfl) (zfty_0) (Or.inr ⟨_, rfl⟩) rfl dX0_init_10 (fun u4 eu4 => ?_)
  have h := h u4 eu4
  refine zc_wk G hp (fun hu4 tu4 => ?_)
  refine zv_aload_n G rfl rfl dX0_init_13 ?_
  refine zv_sipush (a := 160) G (by decide) dX0_init_14 ?_
  have o6 := h.1
  have h := h.2
  refine zc_anew (t := 119) G M (by decide) q1771 o6.1 o6.2 dX0_init_17 (fun u5 eu5 => ?_)
  have h := h u5 eu5
  refine zc_wk G hp (fun hu5 tu5 => ?_)
  refine zc_putR (f := 3) G M (hPp tu5 rfl) rfl q2059 (Or.inl rfl) (Or.inr ⟨rfl, rfl, rfl⟩) (zfty_3) (Or.inr ⟨_, rfl⟩) rfl dX0_init_20 (fun u7 eu7 => ?_)
  have h := h u7 eu7
  refine zc_wk G hp (fun hu7 tu7 => ?_)
  refine zv_aload_n G rfl rfl dX0_init_23 ?_
  refine zv_bipush (a := 12) G (by decide) dX0_init_24 ?_
  have o9 := h.1
  have h := h.2
  refine zc_anew (t := 111) G M (by decide) q733 o9.1 o9.2 dX0_init_26 (fun u8 eu8 => ?_)
  have h := h u8 eu8
  refine zc_wk G hp (fun hu8 tu8 => ?_)
  refine zc_putR (f := 5) G M (hPp tu8 rfl) rfl q2061 (Or.inl rfl) (Or.inl rfl) (zfty_5) (Or.inr ⟨_, rfl⟩) rfl dX0_init_29 (fun u10 eu10 => ?_)
  have h := h u10 eu10
  refine zc_wk G hp (fun hu10 tu10 => ?_)
  refine zv_aload_n G rfl rfl dX0_init_32 ?_
  refine zv_sipush (a := 1600) G (by decide) dX0_init_33 ?_
  have o12 := h.1
  have h := h.2
  refine zc_newa (t := 101) (ty := .byte) G M (by decide) rfl rfl (fun z => z) (by decide) rfl q467 o12.1 o12.2 dX0_init_36 (fun u11 eu11 => ?_)
  have h := h u11 eu11
  refine zc_wk G hp (fun hu11 tu11 => ?_)
  refine zc_putR (f := 7) G M (hPp tu11 rfl) rfl q2063 (Or.inl rfl) (Or.inr ⟨rfl, rfl, rfl⟩) (zfty_7) (Or.inr ⟨_, rfl⟩) rfl dX0_init_38 (fun u13 eu13 => ?_)
  have h := h u13 eu13
  refine zc_wk G hp (fun hu13 tu13 => ?_)
  refine zv_aload_n G rfl rfl dX0_init_41 ?_
  refine zv_bipush (a := 8) G (by decide) dX0_init_42 ?_
  have o15 := h.1
  have h := h.2
  refine zc_newa (t := 103) (ty := .long) G M (by decide) rfl rfl (fun z => z) (by decide) rfl q1261 o15.1 o15.2 dX0_init_44 (fun u14 eu14 => ?_)
  have h := h u14 eu14
  refine zc_wk G hp (fun hu14 tu14 => ?_)
  refine zc_putR (f := 15) G M (hPp tu14 rfl) rfl q2071 (Or.inl rfl) (Or.inr ⟨rfl, rfl, rfl⟩) (zfty_15) (Or.inr ⟨_, rfl⟩) rfl dX0_init_46 (fun u16 eu16 => ?_)
  have h := h u16 eu16
  refine zc_wk G hp (fun hu16 tu16 => ?_)
  refine zv_aload_n G rfl rfl dX0_init_49 ?_
  refine zv_bipush (a := 8) G (by decide) dX0_init_50 ?_
  have o18 := h.1
  have h := h.2
  refine zc_newa (t := 102) (ty := .int) G M (by decide) rfl rfl (fun z => z) (by decide) rfl q708 o18.1 o18.2 dX0_init_52 (fun u17 eu17 => ?_)
  have h := h u17 eu17
  refine zc_wk G hp (fun hu17 tu17 => ?_)
  refine zc_putR (f := 16) G M (hPp tu17 rfl) rfl q2072 (Or.inl rfl) (Or.inr ⟨rfl, rfl, rfl⟩) (zfty_16) (Or.inr ⟨_, rfl⟩) rfl dX0_init_54 (fun u19 eu19 => ?_)
  have h := h u19 eu19
  refine zc_wk G hp (fun hu19 tu19 => ?_)
  refine zv_aload_n G rfl rfl dX0_init_57 ?_
  refine zv_bipush (a := 7) G (by decide) dX0_init_58 ?_
  have o21 := h.1
  have h := h.2
  refine zc_newa (t := 102) (ty := .int) G M (by decide) rfl rfl (fun z => z) (by decide) rfl q708 o21.1 o21.2 dX0_init_60 (fun u20 eu20 => ?_)
  have h := h u20 eu20
  refine zc_wk G hp (fun hu20 tu20 => ?_)
  refine zc_putR (f := 23) G M (hPp tu20 rfl) rfl q2079 (Or.inl rfl) (Or.inr ⟨rfl, rfl, rfl⟩) (zfty_23) (Or.inr ⟨_, rfl⟩) rfl dX0_init_62 (fun u22 eu22 => ?_)
  have h := h u22 eu22
  refine zc_wk G hp (fun hu22 tu22 => ?_)
  refine zv_aload_n G rfl rfl dX0_init_65 ?_
  refine zv_bipush (a := 32) G (by decide) dX0_init_66 ?_
  have o24 := h.1
  have h := h.2
  refine zc_newa (t := 102) (ty := .int) G M (by decide) rfl rfl (fun z => z) (by decide) rfl q708 o24.1 o24.2 dX0_init_68 (fun u23 eu23 => ?_)
  have h := h u23 eu23
  refine zc_wk G hp (fun hu23 tu23 => ?_)
  refine zc_putR (f := 24) G M (hPp tu23 rfl) rfl q2080 (Or.inl rfl) (Or.inr ⟨rfl, rfl, rfl⟩) (zfty_24) (Or.inr ⟨_, rfl⟩) rfl dX0_init_70 (fun u25 eu25 => ?_)
  have h := h u25 eu25
  refine zc_wk G hp (fun hu25 tu25 => ?_)
  exact zv_vret G M dX0_init_73 h
set_option maxHeartbeats 4000000 in
set_option maxRecDepth 100000 in
theorem cpC_X0_count_0 {Γ : ZG CW} {D : CD} {d p : Nat} (hp : D.K.1 = p) (G : ZOk Γ cX0_count RX0 2 (KnC D) (ZC D)) (M : ZRm Γ (d + 1) D.lim (Option.some Jvm.ClassFile.FieldType.int) "count" []) (S : SdC d D p Γ.l) (hl : Γ.l.stackTraces = false) (hk : 0 ≤ d) {x1 : Int} {w : CW} (rx1 : zr x1) (h : pC_X0_count_0 p (wpC p d) (fun v w => Γ.Q (.inl (some (ai v))) w) x1 w) : ZV Γ w 0 [(0, ar p), (1, ai x1)] [] := by
  refine zc_wk G hp (fun hw tw => ?_)
  refine zv_iload_n G rfl rfl dX0_count_0 ?_
  by_cases c1 : x1 = 0
  · have h := h.1 c1
    refine zv_tswI (tgt := 36) G dX0_count_1 0 rx1 (by omega) (by omega) rfl (by decide) ?_
    refine zv_aload_n G rfl rfl dX0_count_36 ?_
    refine zc_get (f := 1) (v := ai (fI w 1 p)) G (hFp tw rfl) rfl q2055 (Or.inl rfl) (cV_I (by decide) (by decide)) dX0_count_37 ?_
    exact zv_iret (ty := .int) (hw.i 1 _ (by decide)) G M rfl dX0_count_40 h
  by_cases c2 : x1 = 1
  · have h := h.2.1 c2
    refine zv_tswI (tgt := 41) G dX0_count_1 1 rx1 (by omega) (by omega) rfl (by decide) ?_
    refine zv_aload_n G rfl rfl dX0_count_41 ?_
    refine zc_get (f := 6) (v := ai (fI w 6 p)) G (hFp tw rfl) rfl q2062 (Or.inl rfl) (cV_I (by decide) (by decide)) dX0_count_42 ?_
    exact zv_iret (ty := .int) (hw.i 6 _ (by decide)) G M rfl dX0_count_45 h
  by_cases c3 : x1 = 2
  · have h := h.2.2.1 c3
    refine zv_tswI (tgt := 46) G dX0_count_1 2 rx1 (by omega) (by omega) rfl (by decide) ?_
    refine zv_aload_n G rfl rfl dX0_count_46 ?_
    refine zc_get (f := 4) (v := ai (fI w 4 p)) G (hFp tw rfl) rfl q2060 (Or.inl rfl) (cV_I (by decide) (by decide)) dX0_count_47 ?_
    exact zv_iret (ty := .int) (hw.i 4 _ (by decide)) G M rfl dX0_count_50 h
  by_cases c4 : x1 = 3
  · have h := h.2.2.2.1 c4
    refine zv_tswI (tgt := 51) G dX0_count_1 3 rx1 (by omega) (by omega) rfl (by decide) ?_
    refine zv_aload_n G rfl rfl dX0_count_51 ?_
    refine zc_get (f := 8) (v := ai (fI w 8 p)) G (hFp tw rfl) rfl q2064 (Or.inl rfl) (cV_I (by decide) (by decide)) dX0_count_52 ?_
    exact zv_iret (ty := .int) (hw.i 8 _ (by decide)) G M rfl dX0_count_55 h
  by_cases c5 : x1 = 4
  · have h := h.2.2.2.2.1 c5
    refine zv_tswI (tgt := 56) G dX0_count_1 4 rx1 (by omega) (by omega) rfl (by decide) ?_
    refine zv_aload_n G rfl rfl dX0_count_56 ?_
    refine zc_get (f := 2) (v := ai (fI w 2 p)) G (hFp tw rfl) rfl q2058 (Or.inl rfl) (cV_I (by decide) (by decide)) dX0_count_57 ?_
    exact zv_iret (ty := .int) (hw.i 2 _ (by decide)) G M rfl dX0_count_60 h
  have h := h.2.2.2.2.2 c1 c2 c3 c4 c5
  refine zv_tswO (tgt := 61) G dX0_count_1 rx1 (by omega) (by decide) ?_
  refine zv_iconst (a := (-1)) G (by decide) dX0_count_61 ?_
  exact zv_iret (ty := .int) (zr_k (-1) (by decide) (by decide)) G M rfl dX0_count_62 h
set_option maxHeartbeats 4000000 in
set_option maxRecDepth 100000 in
theorem cpC_X1_init_0 {Γ : ZG CW} {D : CD} {d p : Nat} (hp : D.K.1 = p) (G : ZOk Γ cX1_init RX1 1 (KnC D) (ZC D)) (M : ZRm Γ (d + 1) D.lim (Option.none : Option Jvm.ClassFile.FieldType) "<init>" []) (S : SdC d D p Γ.l) (hl : Γ.l.stackTraces = false) (hk : 0 ≤ d) {x0 : Nat} {w : CW} (h : pC_X1_init_0 p (wpC p d) (fun w => Γ.Q (.inl none) w) x0 w) : ZV Γ w 0 [(0, ar x0)] [] := by
  refine zc_wk G hp (fun hw tw => ?_)
  refine zv_aload_n G rfl rfl dX1_init_0 ?_
  have o2 := h.1
  have h := h.2
  refine zc_oinit G M q2153 q262 q263 o2 (Nat.le_of_ble_eq_true rfl) dX1_init_1 ?_
  refine zv_aload_n G rfl rfl dX1_init_4 ?_
  refine zv_sipush (a := 1600) G (by decide) dX1_init_5 ?_
  have o4 := h.1
  have h := h.2
  refine zc_newa (t := 102) (ty := .int) G M (by decide) rfl rfl (fun z => z) (by decide) rfl q708 o4.1 o4.2 dX1_init_8 (fun u3 eu3 => ?_)
  have h := h u3 eu3
  refine zc_wk G hp (fun hu3 tu3 => ?_)
  have o6 := h.1
  have h := h.2
  refine zc_putR (f := 127) G M o6 rfl q2155 (Or.inl rfl) (Or.inr ⟨rfl, rfl, rfl⟩) (zfty_127) (Or.inr ⟨_, rfl⟩) rfl dX1_init_10 (fun u5 eu5 => ?_)
  have h := h u5 eu5
  refine zc_wk G hp (fun hu5 tu5 => ?_)
  refine zv_aload_n G rfl rfl dX1_init_13 ?_
  refine zv_bipush (a := 24) G (by decide) dX1_init_14 ?_
  have o8 := h.1
  have h := h.2
  refine zc_newa (t := 103) (ty := .long) G M (by decide) rfl rfl (fun z => z) (by decide) rfl q1261 o8.1 o8.2 dX1_init_16 (fun u7 eu7 => ?_)
  have h := h u7 eu7
  refine zc_wk G hp (fun hu7 tu7 => ?_)
  have o10 := h.1
  have h := h.2
  refine zc_putR (f := 139) G M o10 rfl q2167 (Or.inl rfl) (Or.inr ⟨rfl, rfl, rfl⟩) (zfty_139) (Or.inr ⟨_, rfl⟩) rfl dX1_init_18 (fun u9 eu9 => ?_)
  have h := h u9 eu9
  refine zc_wk G hp (fun hu9 tu9 => ?_)
  refine zv_aload_n G rfl rfl dX1_init_21 ?_
  refine zv_bipush (a := 24) G (by decide) dX1_init_22 ?_
  have o12 := h.1
  have h := h.2
  refine zc_newa (t := 102) (ty := .int) G M (by decide) rfl rfl (fun z => z) (by decide) rfl q708 o12.1 o12.2 dX1_init_24 (fun u11 eu11 => ?_)
  have h := h u11 eu11
  refine zc_wk G hp (fun hu11 tu11 => ?_)
  have o14 := h.1
  have h := h.2
  refine zc_putR (f := 140) G M o14 rfl q2168 (Or.inl rfl) (Or.inr ⟨rfl, rfl, rfl⟩) (zfty_140) (Or.inr ⟨_, rfl⟩) rfl dX1_init_26 (fun u13 eu13 => ?_)
  have h := h u13 eu13
  refine zc_wk G hp (fun hu13 tu13 => ?_)
  refine zv_aload_n G rfl rfl dX1_init_29 ?_
  refine zv_bipush (a := 24) G (by decide) dX1_init_30 ?_
  have o16 := h.1
  have h := h.2
  refine zc_newa (t := 102) (ty := .int) G M (by decide) rfl rfl (fun z => z) (by decide) rfl q708 o16.1 o16.2 dX1_init_32 (fun u15 eu15 => ?_)
  have h := h u15 eu15
  refine zc_wk G hp (fun hu15 tu15 => ?_)
  have o18 := h.1
  have h := h.2
  refine zc_putR (f := 141) G M o18 rfl q2169 (Or.inl rfl) (Or.inr ⟨rfl, rfl, rfl⟩) (zfty_141) (Or.inr ⟨_, rfl⟩) rfl dX1_init_34 (fun u17 eu17 => ?_)
  have h := h u17 eu17
  refine zc_wk G hp (fun hu17 tu17 => ?_)
  refine zv_aload_n G rfl rfl dX1_init_37 ?_
  refine zv_bipush (a := 96) G (by decide) dX1_init_38 ?_
  have o20 := h.1
  have h := h.2
  refine zc_newa (t := 102) (ty := .int) G M (by decide) rfl rfl (fun z => z) (by decide) rfl q708 o20.1 o20.2 dX1_init_40 (fun u19 eu19 => ?_)
  have h := h u19 eu19
  refine zc_wk G hp (fun hu19 tu19 => ?_)
  have o22 := h.1
  have h := h.2
  refine zc_putR (f := 142) G M o22 rfl q2170 (Or.inl rfl) (Or.inr ⟨rfl, rfl, rfl⟩) (zfty_142) (Or.inr ⟨_, rfl⟩) rfl dX1_init_42 (fun u21 eu21 => ?_)
  have h := h u21 eu21
  refine zc_wk G hp (fun hu21 tu21 => ?_)
  refine zv_aload_n G rfl rfl dX1_init_45 ?_
  refine zv_sipush (a := 1700) G (by decide) dX1_init_46 ?_
  have o24 := h.1
  have h := h.2
  refine zc_newa (t := 102) (ty := .int) G M (by decide) rfl rfl (fun z => z) (by decide) rfl q708 o24.1 o24.2 dX1_init_49 (fun u23 eu23 => ?_)
  have h := h u23 eu23
  refine zc_wk G hp (fun hu23 tu23 => ?_)
  have o26 := h.1
  have h := h.2
  refine zc_putR (f := 144) G M o26 rfl q2172 (Or.inl rfl) (Or.inr ⟨rfl, rfl, rfl⟩) (zfty_144) (Or.inr ⟨_, rfl⟩) rfl dX1_init_51 (fun u25 eu25 => ?_)
  have h := h u25 eu25
  refine zc_wk G hp (fun hu25 tu25 => ?_)
  refine zv_aload_n G rfl rfl dX1_init_54 ?_
  refine zv_sipush (a := 1700) G (by decide) dX1_init_55 ?_
  have o28 := h.1
  have h := h.2
  refine zc_newa (t := 102) (ty := .int) G M (by decide) rfl rfl (fun z => z) (by decide) rfl q708 o28.1 o28.2 dX1_init_58 (fun u27 eu27 => ?_)
  have h := h u27 eu27
  refine zc_wk G hp (fun hu27 tu27 => ?_)
  have o30 := h.1
  have h := h.2
  refine zc_putR (f := 145) G M o30 rfl q2173 (Or.inl rfl) (Or.inr ⟨rfl, rfl, rfl⟩) (zfty_145) (Or.inr ⟨_, rfl⟩) rfl dX1_init_60 (fun u29 eu29 => ?_)
  have h := h u29 eu29
  refine zc_wk G hp (fun hu29 tu29 => ?_)
  refine zv_aload_n G rfl rfl dX1_init_63 ?_
  refine zv_sipush (a := 1700) G (by decide) dX1_init_64 ?_
  have o32 := h.1
  have h := h.2
  refine zc_newa (t := 102) (ty := .int) G M (by decide) rfl rfl (fun z => z) (by decide) rfl q708 o32.1 o32.2 dX1_init_67 (fun u31 eu31 => ?_)
  have h := h u31 eu31
  refine zc_wk G hp (fun hu31 tu31 => ?_)
  have o34 := h.1
  have h := h.2
  refine zc_putR (f := 146) G M o34 rfl q2174 (Or.inl rfl) (Or.inr ⟨rfl, rfl, rfl⟩) (zfty_146) (Or.inr ⟨_, rfl⟩) rfl dX1_init_69 (fun u33 eu33 => ?_)
  have h := h u33 eu33
  refine zc_wk G hp (fun hu33 tu33 => ?_)
  refine zv_aload_n G rfl rfl dX1_init_72 ?_
  refine zv_sipush (a := 1700) G (by decide) dX1_init_73 ?_
  have o36 := h.1
  have h := h.2
  refine zc_newa (t := 102) (ty := .int) G M (by decide) rfl rfl (fun z => z) (by decide) rfl q708 o36.1 o36.2 dX1_init_76 (fun u35 eu35 => ?_)
  have h := h u35 eu35
  refine zc_wk G hp (fun hu35 tu35 => ?_)
  have o38 := h.1
  have h := h.2
  refine zc_putR (f := 147) G M o38 rfl q2175 (Or.inl rfl) (Or.inr ⟨rfl, rfl, rfl⟩) (zfty_147) (Or.inr ⟨_, rfl⟩) rfl dX1_init_78 (fun u37 eu37 => ?_)
  have h := h u37 eu37
  refine zc_wk G hp (fun hu37 tu37 => ?_)
  refine zv_aload_n G rfl rfl dX1_init_81 ?_
  refine zv_sipush (a := 1700) G (by decide) dX1_init_82 ?_
  have o40 := h.1
  have h := h.2
  refine zc_newa (t := 103) (ty := .long) G M (by decide) rfl rfl (fun z => z) (by decide) rfl q1261 o40.1 o40.2 dX1_init_85 (fun u39 eu39 => ?_)
  have h := h u39 eu39
  refine zc_wk G hp (fun hu39 tu39 => ?_)
  have o42 := h.1
  have h := h.2
  refine zc_putR (f := 148) G M o42 rfl q2176 (Or.inl rfl) (Or.inr ⟨rfl, rfl, rfl⟩) (zfty_148) (Or.inr ⟨_, rfl⟩) rfl dX1_init_87 (fun u41 eu41 => ?_)
  have h := h u41 eu41
  refine zc_wk G hp (fun hu41 tu41 => ?_)
  refine zv_aload_n G rfl rfl dX1_init_90 ?_
  refine zv_sipush (a := 1700) G (by decide) dX1_init_91 ?_
  have o44 := h.1
  have h := h.2
  refine zc_newa (t := 102) (ty := .int) G M (by decide) rfl rfl (fun z => z) (by decide) rfl q708 o44.1 o44.2 dX1_init_94 (fun u43 eu43 => ?_)
  have h := h u43 eu43
  refine zc_wk G hp (fun hu43 tu43 => ?_)
  have o46 := h.1
  have h := h.2
  refine zc_putR (f := 149) G M o46 rfl q2177 (Or.inl rfl) (Or.inr ⟨rfl, rfl, rfl⟩) (zfty_149) (Or.inr ⟨_, rfl⟩) rfl dX1_init_96 (fun u45 eu45 => ?_)
  have h := h u45 eu45
  refine zc_wk G hp (fun hu45 tu45 => ?_)
  refine zv_aload_n G rfl rfl dX1_init_99 ?_
  refine zv_sipush (a := 1700) G (by decide) dX1_init_100 ?_
  have o48 := h.1
  have h := h.2
  refine zc_newa (t := 102) (ty := .int) G M (by decide) rfl rfl (fun z => z) (by decide) rfl q708 o48.1 o48.2 dX1_init_103 (fun u47 eu47 => ?_)
  have h := h u47 eu47
  refine zc_wk G hp (fun hu47 tu47 => ?_)
  have o50 := h.1
  have h := h.2
  refine zc_putR (f := 150) G M o50 rfl q2178 (Or.inl rfl) (Or.inr ⟨rfl, rfl, rfl⟩) (zfty_150) (Or.inr ⟨_, rfl⟩) rfl dX1_init_105 (fun u49 eu49 => ?_)
  have h := h u49 eu49
  refine zc_wk G hp (fun hu49 tu49 => ?_)
  refine zv_aload_n G rfl rfl dX1_init_108 ?_
  refine zv_sipush (a := 1700) G (by decide) dX1_init_109 ?_
  have o52 := h.1
  have h := h.2
  refine zc_newa (t := 102) (ty := .int) G M (by decide) rfl rfl (fun z => z) (by decide) rfl q708 o52.1 o52.2 dX1_init_112 (fun u51 eu51 => ?_)
  have h := h u51 eu51
  refine zc_wk G hp (fun hu51 tu51 => ?_)
  have o54 := h.1
  have h := h.2
  refine zc_putR (f := 151) G M o54 rfl q2179 (Or.inl rfl) (Or.inr ⟨rfl, rfl, rfl⟩) (zfty_151) (Or.inr ⟨_, rfl⟩) rfl dX1_init_114 (fun u53 eu53 => ?_)
  have h := h u53 eu53
  refine zc_wk G hp (fun hu53 tu53 => ?_)
  refine zv_aload_n G rfl rfl dX1_init_117 ?_
  refine zv_sipush (a := 1700) G (by decide) dX1_init_118 ?_
  have o56 := h.1
  have h := h.2
  refine zc_newa (t := 102) (ty := .int) G M (by decide) rfl rfl (fun z => z) (by decide) rfl q708 o56.1 o56.2 dX1_init_121 (fun u55 eu55 => ?_)
  have h := h u55 eu55
  refine zc_wk G hp (fun hu55 tu55 => ?_)
  have o58 := h.1
  have h := h.2
  refine zc_putR (f := 152) G M o58 rfl q2180 (Or.inl rfl) (Or.inr ⟨rfl, rfl, rfl⟩) (zfty_152) (Or.inr ⟨_, rfl⟩) rfl dX1_init_123 (fun u57 eu57 => ?_)
  have h := h u57 eu57
  refine zc_wk G hp (fun hu57 tu57 => ?_)
  refine zv_aload_n G rfl rfl dX1_init_126 ?_
  refine zv_sipush (a := 1700) G (by decide) dX1_init_127 ?_
  have o60 := h.1
  have h := h.2
  refine zc_newa (t := 102) (ty := .int) G M (by decide) rfl rfl (fun z => z) (by decide) rfl q708 o60.1 o60.2 dX1_init_130 (fun u59 eu59 => ?_)
  have h := h u59 eu59
  refine zc_wk G hp (fun hu59 tu59 => ?_)
  have o62 := h.1
  have h := h.2
  refine zc_putR (f := 153) G M o62 rfl q2181 (Or.inl rfl) (Or.inr ⟨rfl, rfl, rfl⟩) (zfty_153) (Or.inr ⟨_, rfl⟩) rfl dX1_init_132 (fun u61 eu61 => ?_)
  have h := h u61 eu61
  refine zc_wk G hp (fun hu61 tu61 => ?_)
  refine zv_aload_n G rfl rfl dX1_init_135 ?_
  refine zv_sipush (a := 192) G (by decide) dX1_init_136 ?_
  have o64 := h.1
  have h := h.2
  refine zc_newa (t := 102) (ty := .int) G M (by decide) rfl rfl (fun z => z) (by decide) rfl q708 o64.1 o64.2 dX1_init_139 (fun u63 eu63 => ?_)
  have h := h u63 eu63
  refine zc_wk G hp (fun hu63 tu63 => ?_)
  have o66 := h.1
  have h := h.2
  refine zc_putR (f := 155) G M o66 rfl q2183 (Or.inl rfl) (Or.inr ⟨rfl, rfl, rfl⟩) (zfty_155) (Or.inr ⟨_, rfl⟩) rfl dX1_init_141 (fun u65 eu65 => ?_)
  have h := h u65 eu65
  refine zc_wk G hp (fun hu65 tu65 => ?_)
  refine zv_aload_n G rfl rfl dX1_init_144 ?_
  refine zv_sipush (a := 1536) G (by decide) dX1_init_145 ?_
  have o68 := h.1
  have h := h.2
  refine zc_newa (t := 103) (ty := .long) G M (by decide) rfl rfl (fun z => z) (by decide) rfl q1261 o68.1 o68.2 dX1_init_148 (fun u67 eu67 => ?_)
  have h := h u67 eu67
  refine zc_wk G hp (fun hu67 tu67 => ?_)
  have o70 := h.1
  have h := h.2
  refine zc_putR (f := 156) G M o70 rfl q2184 (Or.inl rfl) (Or.inr ⟨rfl, rfl, rfl⟩) (zfty_156) (Or.inr ⟨_, rfl⟩) rfl dX1_init_150 (fun u69 eu69 => ?_)
  have h := h u69 eu69
  refine zc_wk G hp (fun hu69 tu69 => ?_)
  refine zv_aload_n G rfl rfl dX1_init_153 ?_
  refine zv_sipush (a := 1536) G (by decide) dX1_init_154 ?_
  have o72 := h.1
  have h := h.2
  refine zc_newa (t := 102) (ty := .int) G M (by decide) rfl rfl (fun z => z) (by decide) rfl q708 o72.1 o72.2 dX1_init_157 (fun u71 eu71 => ?_)
  have h := h u71 eu71
  refine zc_wk G hp (fun hu71 tu71 => ?_)
  have o74 := h.1
  have h := h.2
  refine zc_putR (f := 157) G M o74 rfl q2185 (Or.inl rfl) (Or.inr ⟨rfl, rfl, rfl⟩) (zfty_157) (Or.inr ⟨_, rfl⟩) rfl dX1_init_159 (fun u73 eu73 => ?_)
  have h := h u73 eu73
  refine zc_wk G hp (fun hu73 tu73 => ?_)
  refine zv_aload_n G rfl rfl dX1_init_162 ?_
  refine zv_bipush (a := 8) G (by decide) dX1_init_163 ?_
  have o76 := h.1
  have h := h.2
  refine zc_newa (t := 102) (ty := .int) G M (by decide) rfl rfl (fun z => z) (by decide) rfl q708 o76.1 o76.2 dX1_init_165 (fun u75 eu75 => ?_)
  have h := h u75 eu75
  refine zc_wk G hp (fun hu75 tu75 => ?_)
  have o78 := h.1
  have h := h.2
  refine zc_putR (f := 160) G M o78 rfl q2188 (Or.inl rfl) (Or.inr ⟨rfl, rfl, rfl⟩) (zfty_160) (Or.inr ⟨_, rfl⟩) rfl dX1_init_167 (fun u77 eu77 => ?_)
  have h := h u77 eu77
  refine zc_wk G hp (fun hu77 tu77 => ?_)
  refine zv_aload_n G rfl rfl dX1_init_170 ?_
  refine zv_bipush (a := 8) G (by decide) dX1_init_171 ?_
  have o80 := h.1
  have h := h.2
  refine zc_newa (t := 102) (ty := .int) G M (by decide) rfl rfl (fun z => z) (by decide) rfl q708 o80.1 o80.2 dX1_init_173 (fun u79 eu79 => ?_)
  have h := h u79 eu79
  refine zc_wk G hp (fun hu79 tu79 => ?_)
  have o82 := h.1
  have h := h.2
  refine zc_putR (f := 161) G M o82 rfl q2189 (Or.inl rfl) (Or.inr ⟨rfl, rfl, rfl⟩) (zfty_161) (Or.inr ⟨_, rfl⟩) rfl dX1_init_175 (fun u81 eu81 => ?_)
  have h := h u81 eu81
  refine zc_wk G hp (fun hu81 tu81 => ?_)
  refine zv_aload_n G rfl rfl dX1_init_178 ?_
  refine zv_bipush (a := 8) G (by decide) dX1_init_179 ?_
  have o84 := h.1
  have h := h.2
  refine zc_newa (t := 102) (ty := .int) G M (by decide) rfl rfl (fun z => z) (by decide) rfl q708 o84.1 o84.2 dX1_init_181 (fun u83 eu83 => ?_)
  have h := h u83 eu83
  refine zc_wk G hp (fun hu83 tu83 => ?_)
  have o86 := h.1
  have h := h.2
  refine zc_putR (f := 162) G M o86 rfl q2190 (Or.inl rfl) (Or.inr ⟨rfl, rfl, rfl⟩) (zfty_162) (Or.inr ⟨_, rfl⟩) rfl dX1_init_183 (fun u85 eu85 => ?_)
  have h := h u85 eu85
  refine zc_wk G hp (fun hu85 tu85 => ?_)
  refine zv_aload_n G rfl rfl dX1_init_186 ?_
  refine zv_bipush (a := 8) G (by decide) dX1_init_187 ?_
  have o88 := h.1
  have h := h.2
  refine zc_newa (t := 102) (ty := .int) G M (by decide) rfl rfl (fun z => z) (by decide) rfl q708 o88.1 o88.2 dX1_init_189 (fun u87 eu87 => ?_)
  have h := h u87 eu87
  refine zc_wk G hp (fun hu87 tu87 => ?_)
  have o90 := h.1
  have h := h.2
  refine zc_putR (f := 163) G M o90 rfl q2191 (Or.inl rfl) (Or.inr ⟨rfl, rfl, rfl⟩) (zfty_163) (Or.inr ⟨_, rfl⟩) rfl dX1_init_191 (fun u89 eu89 => ?_)
  have h := h u89 eu89
  refine zc_wk G hp (fun hu89 tu89 => ?_)
  refine zv_aload_n G rfl rfl dX1_init_194 ?_
  refine zv_bipush (a := 8) G (by decide) dX1_init_195 ?_
  have o92 := h.1
  have h := h.2
  refine zc_newa (t := 102) (ty := .int) G M (by decide) rfl rfl (fun z => z) (by decide) rfl q708 o92.1 o92.2 dX1_init_197 (fun u91 eu91 => ?_)
  have h := h u91 eu91
  refine zc_wk G hp (fun hu91 tu91 => ?_)
  have o94 := h.1
  have h := h.2
  refine zc_putR (f := 164) G M o94 rfl q2192 (Or.inl rfl) (Or.inr ⟨rfl, rfl, rfl⟩) (zfty_164) (Or.inr ⟨_, rfl⟩) rfl dX1_init_199 (fun u93 eu93 => ?_)
  have h := h u93 eu93
  refine zc_wk G hp (fun hu93 tu93 => ?_)
  refine zv_aload_n G rfl rfl dX1_init_202 ?_
  refine zv_bipush (a := 8) G (by decide) dX1_init_203 ?_
  have o96 := h.1
  have h := h.2
  refine zc_newa (t := 102) (ty := .int) G M (by decide) rfl rfl (fun z => z) (by decide) rfl q708 o96.1 o96.2 dX1_init_205 (fun u95 eu95 => ?_)
  have h := h u95 eu95
  refine zc_wk G hp (fun hu95 tu95 => ?_)
  have o98 := h.1
  have h := h.2
  refine zc_putR (f := 165) G M o98 rfl q2193 (Or.inl rfl) (Or.inr ⟨rfl, rfl, rfl⟩) (zfty_165) (Or.inr ⟨_, rfl⟩) rfl dX1_init_207 (fun u97 eu97 => ?_)
  have h := h u97 eu97
  refine zc_wk G hp (fun hu97 tu97 => ?_)
  refine zv_aload_n G rfl rfl dX1_init_210 ?_
  refine zv_bipush (a := 8) G (by decide) dX1_init_211 ?_
  have o100 := h.1
  have h := h.2
  refine zc_newa (t := 104) (ty := .boolean) G M (by decide) rfl rfl (fun z => z) (by decide) rfl q2546 o100.1 o100.2 dX1_init_213 (fun u99 eu99 => ?_)
  have h := h u99 eu99
  refine zc_wk G hp (fun hu99 tu99 => ?_)
  have o102 := h.1
  have h := h.2
  refine zc_putR (f := 166) G M o102 rfl q2194 (Or.inl rfl) (Or.inr ⟨rfl, rfl, rfl⟩) (zfty_166) (Or.inr ⟨_, rfl⟩) rfl dX1_init_215 (fun u101 eu101 => ?_)
  have h := h u101 eu101
  refine zc_wk G hp (fun hu101 tu101 => ?_)
  refine zv_aload_n G rfl rfl dX1_init_218 ?_
  refine zv_bipush (a := 64) G (by decide) dX1_init_219 ?_
  have o104 := h.1
  have h := h.2
  refine zc_newa (t := 102) (ty := .int) G M (by decide) rfl rfl (fun z => z) (by decide) rfl q708 o104.1 o104.2 dX1_init_221 (fun u103 eu103 => ?_)
  have h := h u103 eu103
  refine zc_wk G hp (fun hu103 tu103 => ?_)
  have o106 := h.1
  have h := h.2
  refine zc_putR (f := 167) G M o106 rfl q2195 (Or.inl rfl) (Or.inr ⟨rfl, rfl, rfl⟩) (zfty_167) (Or.inr ⟨_, rfl⟩) rfl dX1_init_223 (fun u105 eu105 => ?_)
  have h := h u105 eu105
  refine zc_wk G hp (fun hu105 tu105 => ?_)
  refine zv_aload_n G rfl rfl dX1_init_226 ?_
  refine zv_bipush (a := 12) G (by decide) dX1_init_227 ?_
  have o108 := h.1
  have h := h.2
  refine zc_newa (t := 103) (ty := .long) G M (by decide) rfl rfl (fun z => z) (by decide) rfl q1261 o108.1 o108.2 dX1_init_229 (fun u107 eu107 => ?_)
  have h := h u107 eu107
  refine zc_wk G hp (fun hu107 tu107 => ?_)
  have o110 := h.1
  have h := h.2
  refine zc_putR (f := 169) G M o110 rfl q2197 (Or.inl rfl) (Or.inr ⟨rfl, rfl, rfl⟩) (zfty_169) (Or.inr ⟨_, rfl⟩) rfl dX1_init_231 (fun u109 eu109 => ?_)
  have h := h u109 eu109
  refine zc_wk G hp (fun hu109 tu109 => ?_)
  refine zv_aload_n G rfl rfl dX1_init_234 ?_
  refine zv_bipush (a := 12) G (by decide) dX1_init_235 ?_
  have o112 := h.1
  have h := h.2
  refine zc_newa (t := 102) (ty := .int) G M (by decide) rfl rfl (fun z => z) (by decide) rfl q708 o112.1 o112.2 dX1_init_237 (fun u111 eu111 => ?_)
  have h := h u111 eu111
  refine zc_wk G hp (fun hu111 tu111 => ?_)
  have o114 := h.1
  have h := h.2
  refine zc_putR (f := 170) G M o114 rfl q2198 (Or.inl rfl) (Or.inr ⟨rfl, rfl, rfl⟩) (zfty_170) (Or.inr ⟨_, rfl⟩) rfl dX1_init_239 (fun u113 eu113 => ?_)
  have h := h u113 eu113
  refine zc_wk G hp (fun hu113 tu113 => ?_)
  refine zv_aload_n G rfl rfl dX1_init_242 ?_
  refine zv_bipush (a := 36) G (by decide) dX1_init_243 ?_
  have o116 := h.1
  have h := h.2
  refine zc_newa (t := 102) (ty := .int) G M (by decide) rfl rfl (fun z => z) (by decide) rfl q708 o116.1 o116.2 dX1_init_245 (fun u115 eu115 => ?_)
  have h := h u115 eu115
  refine zc_wk G hp (fun hu115 tu115 => ?_)
  have o118 := h.1
  have h := h.2
  refine zc_putR (f := 171) G M o118 rfl q2199 (Or.inl rfl) (Or.inr ⟨rfl, rfl, rfl⟩) (zfty_171) (Or.inr ⟨_, rfl⟩) rfl dX1_init_247 (fun u117 eu117 => ?_)
  have h := h u117 eu117
  refine zc_wk G hp (fun hu117 tu117 => ?_)
  refine zv_aload_n G rfl rfl dX1_init_250 ?_
  refine zv_bipush (a := 12) G (by decide) dX1_init_251 ?_
  have o120 := h.1
  have h := h.2
  refine zc_newa (t := 102) (ty := .int) G M (by decide) rfl rfl (fun z => z) (by decide) rfl q708 o120.1 o120.2 dX1_init_253 (fun u119 eu119 => ?_)
  have h := h u119 eu119
  refine zc_wk G hp (fun hu119 tu119 => ?_)
  have o122 := h.1
  have h := h.2
  refine zc_putR (f := 172) G M o122 rfl q2200 (Or.inl rfl) (Or.inr ⟨rfl, rfl, rfl⟩) (zfty_172) (Or.inr ⟨_, rfl⟩) rfl dX1_init_255 (fun u121 eu121 => ?_)
  have h := h u121 eu121
  refine zc_wk G hp (fun hu121 tu121 => ?_)
  refine zv_aload_n G rfl rfl dX1_init_258 ?_
  refine zv_bipush (a := 12) G (by decide) dX1_init_259 ?_
  have o124 := h.1
  have h := h.2
  refine zc_newa (t := 102) (ty := .int) G M (by decide) rfl rfl (fun z => z) (by decide) rfl q708 o124.1 o124.2 dX1_init_261 (fun u123 eu123 => ?_)
  have h := h u123 eu123
  refine zc_wk G hp (fun hu123 tu123 => ?_)
  have o126 := h.1
  have h := h.2
  refine zc_putR (f := 173) G M o126 rfl q2201 (Or.inl rfl) (Or.inr ⟨rfl, rfl, rfl⟩) (zfty_173) (Or.inr ⟨_, rfl⟩) rfl dX1_init_263 (fun u125 eu125 => ?_)
  have h := h u125 eu125
  refine zc_wk G hp (fun hu125 tu125 => ?_)
  refine zv_aload_n G rfl rfl dX1_init_266 ?_
  refine zv_sipush (a := 192) G (by decide) dX1_init_267 ?_
  have o128 := h.1
  have h := h.2
  refine zc_newa (t := 102) (ty := .int) G M (by decide) rfl rfl (fun z => z) (by decide) rfl q708 o128.1 o128.2 dX1_init_270 (fun u127 eu127 => ?_)
  have h := h u127 eu127
  refine zc_wk G hp (fun hu127 tu127 => ?_)
  have o130 := h.1
  have h := h.2
  refine zc_putR (f := 174) G M o130 rfl q2202 (Or.inl rfl) (Or.inr ⟨rfl, rfl, rfl⟩) (zfty_174) (Or.inr ⟨_, rfl⟩) rfl dX1_init_272 (fun u129 eu129 => ?_)
  have h := h u129 eu129
  refine zc_wk G hp (fun hu129 tu129 => ?_)
  refine zv_aload_n G rfl rfl dX1_init_275 ?_
  refine zv_sipush (a := 192) G (by decide) dX1_init_276 ?_
  have o132 := h.1
  have h := h.2
  refine zc_newa (t := 102) (ty := .int) G M (by decide) rfl rfl (fun z => z) (by decide) rfl q708 o132.1 o132.2 dX1_init_279 (fun u131 eu131 => ?_)
  have h := h u131 eu131
  refine zc_wk G hp (fun hu131 tu131 => ?_)
  have o134 := h.1
  have h := h.2
  refine zc_putR (f := 175) G M o134 rfl q2203 (Or.inl rfl) (Or.inr ⟨rfl, rfl, rfl⟩) (zfty_175) (Or.inr ⟨_, rfl⟩) rfl dX1_init_281 (fun u133 eu133 => ?_)
  have h := h u133 eu133
  refine zc_wk G hp (fun hu133 tu133 => ?_)
  refine zv_aload_n G rfl rfl dX1_init_284 ?_
  refine zv_sipush (a := 192) G (by decide) dX1_init_285 ?_
  have o136 := h.1
  have h := h.2
  refine zc_newa (t := 102) (ty := .int) G M (by decide) rfl rfl (fun z => z) (by decide) rfl q708 o136.1 o136.2 dX1_init_288 (fun u135 eu135 => ?_)
  have h := h u135 eu135
  refine zc_wk G hp (fun hu135 tu135 => ?_)
  have o138 := h.1
  have h := h.2
  refine zc_putR (f := 176) G M o138 rfl q2204 (Or.inl rfl) (Or.inr ⟨rfl, rfl, rfl⟩) (zfty_176) (Or.inr ⟨_, rfl⟩) rfl dX1_init_290 (fun u137 eu137 => ?_)
  have h := h u137 eu137
  refine zc_wk G hp (fun hu137 tu137 => ?_)
  refine zv_aload_n G rfl rfl dX1_init_293 ?_
  refine zv_sipush (a := 768) G (by decide) dX1_init_294 ?_
  have o140 := h.1
  have h := h.2
  refine zc_newa (t := 102) (ty := .int) G M (by decide) rfl rfl (fun z => z) (by decide) rfl q708 o140.1 o140.2 dX1_init_297 (fun u139 eu139 => ?_)
  have h := h u139 eu139
  refine zc_wk G hp (fun hu139 tu139 => ?_)
  have o142 := h.1
  have h := h.2
  refine zc_putR (f := 177) G M o142 rfl q2205 (Or.inl rfl) (Or.inr ⟨rfl, rfl, rfl⟩) (zfty_177) (Or.inr ⟨_, rfl⟩) rfl dX1_init_299 (fun u141 eu141 => ?_)
  have h := h u141 eu141
  refine zc_wk G hp (fun hu141 tu141 => ?_)
  refine zv_aload_n G rfl rfl dX1_init_302 ?_
  refine zv_sipush (a := 768) G (by decide) dX1_init_303 ?_
  have o144 := h.1
  have h := h.2
  refine zc_newa (t := 102) (ty := .int) G M (by decide) rfl rfl (fun z => z) (by decide) rfl q708 o144.1 o144.2 dX1_init_306 (fun u143 eu143 => ?_)
  have h := h u143 eu143
  refine zc_wk G hp (fun hu143 tu143 => ?_)
  have o146 := h.1
  have h := h.2
  refine zc_putR (f := 178) G M o146 rfl q2206 (Or.inl rfl) (Or.inr ⟨rfl, rfl, rfl⟩) (zfty_178) (Or.inr ⟨_, rfl⟩) rfl dX1_init_308 (fun u145 eu145 => ?_)
  have h := h u145 eu145
  refine zc_wk G hp (fun hu145 tu145 => ?_)
  refine zv_aload_n G rfl rfl dX1_init_311 ?_
  refine zv_sipush (a := 384) G (by decide) dX1_init_312 ?_
  have o148 := h.1
  have h := h.2
  refine zc_newa (t := 102) (ty := .int) G M (by decide) rfl rfl (fun z => z) (by decide) rfl q708 o148.1 o148.2 dX1_init_315 (fun u147 eu147 => ?_)
  have h := h u147 eu147
  refine zc_wk G hp (fun hu147 tu147 => ?_)
  have o150 := h.1
  have h := h.2
  refine zc_putR (f := 179) G M o150 rfl q2207 (Or.inl rfl) (Or.inr ⟨rfl, rfl, rfl⟩) (zfty_179) (Or.inr ⟨_, rfl⟩) rfl dX1_init_317 (fun u149 eu149 => ?_)
  have h := h u149 eu149
  refine zc_wk G hp (fun hu149 tu149 => ?_)
  refine zv_aload_n G rfl rfl dX1_init_320 ?_
  refine zv_sipush (a := 192) G (by decide) dX1_init_321 ?_
  have o152 := h.1
  have h := h.2
  refine zc_newa (t := 102) (ty := .int) G M (by decide) rfl rfl (fun z => z) (by decide) rfl q708 o152.1 o152.2 dX1_init_324 (fun u151 eu151 => ?_)
  have h := h u151 eu151
  refine zc_wk G hp (fun hu151 tu151 => ?_)
  have o154 := h.1
  have h := h.2
  refine zc_putR (f := 180) G M o154 rfl q2208 (Or.inl rfl) (Or.inr ⟨rfl, rfl, rfl⟩) (zfty_180) (Or.inr ⟨_, rfl⟩) rfl dX1_init_326 (fun u153 eu153 => ?_)
  have h := h u153 eu153
  refine zc_wk G hp (fun hu153 tu153 => ?_)
  refine zv_aload_n G rfl rfl dX1_init_329 ?_
  refine zv_sipush (a := 192) G (by decide) dX1_init_330 ?_
  have o156 := h.1
  have h := h.2
  refine zc_newa (t := 102) (ty := .int) G M (by decide) rfl rfl (fun z => z) (by decide) rfl q708 o156.1 o156.2 dX1_init_333 (fun u155 eu155 => ?_)
  have h := h u155 eu155
  refine zc_wk G hp (fun hu155 tu155 => ?_)
  have o158 := h.1
  have h := h.2
  refine zc_putR (f := 181) G M o158 rfl q2209 (Or.inl rfl) (Or.inr ⟨rfl, rfl, rfl⟩) (zfty_181) (Or.inr ⟨_, rfl⟩) rfl dX1_init_335 (fun u157 eu157 => ?_)
  have h := h u157 eu157
  refine zc_wk G hp (fun hu157 tu157 => ?_)
  refine zv_aload_n G rfl rfl dX1_init_338 ?_
  refine zv_sipush (a := 192) G (by decide) dX1_init_339 ?_
  have o160 := h.1
  have h := h.2
  refine zc_newa (t := 102) (ty := .int) G M (by decide) rfl rfl (fun z => z) (by decide) rfl q708 o160.1 o160.2 dX1_init_342 (fun u159 eu159 => ?_)
  have h := h u159 eu159
  refine zc_wk G hp (fun hu159 tu159 => ?_)
  have o162 := h.1
  have h := h.2
  refine zc_putR (f := 182) G M o162 rfl q2210 (Or.inl rfl) (Or.inr ⟨rfl, rfl, rfl⟩) (zfty_182) (Or.inr ⟨_, rfl⟩) rfl dX1_init_344 (fun u161 eu161 => ?_)
  have h := h u161 eu161
  refine zc_wk G hp (fun hu161 tu161 => ?_)
  refine zv_aload_n G rfl rfl dX1_init_347 ?_
  refine zv_sipush (a := 192) G (by decide) dX1_init_348 ?_
  have o164 := h.1
  have h := h.2
  refine zc_newa (t := 103) (ty := .long) G M (by decide) rfl rfl (fun z => z) (by decide) rfl q1261 o164.1 o164.2 dX1_init_351 (fun u163 eu163 => ?_)
  have h := h u163 eu163
  refine zc_wk G hp (fun hu163 tu163 => ?_)
  have o166 := h.1
  have h := h.2
  refine zc_putR (f := 183) G M o166 rfl q2211 (Or.inl rfl) (Or.inr ⟨rfl, rfl, rfl⟩) (zfty_183) (Or.inr ⟨_, rfl⟩) rfl dX1_init_353 (fun u165 eu165 => ?_)
  have h := h u165 eu165
  refine zc_wk G hp (fun hu165 tu165 => ?_)
  refine zv_aload_n G rfl rfl dX1_init_356 ?_
  refine zv_sipush (a := 192) G (by decide) dX1_init_357 ?_
  have o168 := h.1
  have h := h.2
  refine zc_newa (t := 102) (ty := .int) G M (by decide) rfl rfl (fun z => z) (by decide) rfl q708 o168.1 o168.2 dX1_init_360 (fun u167 eu167 => ?_)
  have h := h u167 eu167
  refine zc_wk G hp (fun hu167 tu167 => ?_)
  have o170 := h.1
  have h := h.2
  refine zc_putR (f := 184) G M o170 rfl q2212 (Or.inl rfl) (Or.inr ⟨rfl, rfl, rfl⟩) (zfty_184) (Or.inr ⟨_, rfl⟩) rfl dX1_init_362 (fun u169 eu169 => ?_)
  have h := h u169 eu169
  refine zc_wk G hp (fun hu169 tu169 => ?_)
  refine zv_aload_n G rfl rfl dX1_init_365 ?_
  refine zv_sipush (a := 192) G (by decide) dX1_init_366 ?_
  have o172 := h.1
  have h := h.2
  refine zc_newa (t := 102) (ty := .int) G M (by decide) rfl rfl (fun z => z) (by decide) rfl q708 o172.1 o172.2 dX1_init_369 (fun u171 eu171 => ?_)
  have h := h u171 eu171
  refine zc_wk G hp (fun hu171 tu171 => ?_)
  have o174 := h.1
  have h := h.2
  refine zc_putR (f := 185) G M o174 rfl q2213 (Or.inl rfl) (Or.inr ⟨rfl, rfl, rfl⟩) (zfty_185) (Or.inr ⟨_, rfl⟩) rfl dX1_init_371 (fun u173 eu173 => ?_)
  have h := h u173 eu173
  refine zc_wk G hp (fun hu173 tu173 => ?_)
  refine zv_aload_n G rfl rfl dX1_init_374 ?_
  refine zv_sipush (a := 576) G (by decide) dX1_init_375 ?_
  have o176 := h.1
  have h := h.2
  refine zc_newa (t := 102) (ty := .int) G M (by decide) rfl rfl (fun z => z) (by decide) rfl q708 o176.1 o176.2 dX1_init_378 (fun u175 eu175 => ?_)
  have h := h u175 eu175
  refine zc_wk G hp (fun hu175 tu175 => ?_)
  have o178 := h.1
  have h := h.2
  refine zc_putR (f := 186) G M o178 rfl q2214 (Or.inl rfl) (Or.inr ⟨rfl, rfl, rfl⟩) (zfty_186) (Or.inr ⟨_, rfl⟩) rfl dX1_init_380 (fun u177 eu177 => ?_)
  have h := h u177 eu177
  refine zc_wk G hp (fun hu177 tu177 => ?_)
  refine zv_aload_n G rfl rfl dX1_init_383 ?_
  refine zv_sipush (a := 576) G (by decide) dX1_init_384 ?_
  have o180 := h.1
  have h := h.2
  refine zc_newa (t := 102) (ty := .int) G M (by decide) rfl rfl (fun z => z) (by decide) rfl q708 o180.1 o180.2 dX1_init_387 (fun u179 eu179 => ?_)
  have h := h u179 eu179
  refine zc_wk G hp (fun hu179 tu179 => ?_)
  have o182 := h.1
  have h := h.2
  refine zc_putR (f := 187) G M o182 rfl q2215 (Or.inl rfl) (Or.inr ⟨rfl, rfl, rfl⟩) (zfty_187) (Or.inr ⟨_, rfl⟩) rfl dX1_init_389 (fun u181 eu181 => ?_)
  have h := h u181 eu181
  refine zc_wk G hp (fun hu181 tu181 => ?_)
  refine zv_aload_n G rfl rfl dX1_init_392 ?_
  refine zv_bipush (a := 40) G (by decide) dX1_init_393 ?_
  have o184 := h.1
  have h := h.2
  refine zc_newa (t := 102) (ty := .int) G M (by decide) rfl rfl (fun z => z) (by decide) rfl q708 o184.1 o184.2 dX1_init_395 (fun u183 eu183 => ?_)
  have h := h u183 eu183
  refine zc_wk G hp (fun hu183 tu183 => ?_)
  have o186 := h.1
  have h := h.2
  refine zc_putR (f := 189) G M o186 rfl q2217 (Or.inl rfl) (Or.inr ⟨rfl, rfl, rfl⟩) (zfty_189) (Or.inr ⟨_, rfl⟩) rfl dX1_init_397 (fun u185 eu185 => ?_)
  have h := h u185 eu185
  refine zc_wk G hp (fun hu185 tu185 => ?_)
  refine zv_aload_n G rfl rfl dX1_init_400 ?_
  refine zv_bipush (a := 40) G (by decide) dX1_init_401 ?_
  have o188 := h.1
  have h := h.2
  refine zc_newa (t := 102) (ty := .int) G M (by decide) rfl rfl (fun z => z) (by decide) rfl q708 o188.1 o188.2 dX1_init_403 (fun u187 eu187 => ?_)
  have h := h u187 eu187
  refine zc_wk G hp (fun hu187 tu187 => ?_)
  have o190 := h.1
  have h := h.2
  refine zc_putR (f := 190) G M o190 rfl q2218 (Or.inl rfl) (Or.inr ⟨rfl, rfl, rfl⟩) (zfty_190) (Or.inr ⟨_, rfl⟩) rfl dX1_init_405 (fun u189 eu189 => ?_)
  have h := h u189 eu189
  refine zc_wk G hp (fun hu189 tu189 => ?_)
  refine zv_aload_n G rfl rfl dX1_init_408 ?_
  refine zv_bipush (a := 41) G (by decide) dX1_init_409 ?_
  have o192 := h.1
  have h := h.2
  refine zc_newa (t := 102) (ty := .int) G M (by decide) rfl rfl (fun z => z) (by decide) rfl q708 o192.1 o192.2 dX1_init_411 (fun u191 eu191 => ?_)
  have h := h u191 eu191
  refine zc_wk G hp (fun hu191 tu191 => ?_)
  have o194 := h.1
  have h := h.2
  refine zc_putR (f := 191) G M o194 rfl q2219 (Or.inl rfl) (Or.inr ⟨rfl, rfl, rfl⟩) (zfty_191) (Or.inr ⟨_, rfl⟩) rfl dX1_init_413 (fun u193 eu193 => ?_)
  have h := h u193 eu193
  refine zc_wk G hp (fun hu193 tu193 => ?_)
  refine zv_aload_n G rfl rfl dX1_init_416 ?_
  refine zv_ldc (a := 33000) G (G.kn.2.1 _ q2154 _) (by decide) dX1_init_417 ?_
  have o196 := h.1
  have h := h.2
  refine zc_newa (t := 102) (ty := .int) G M (by decide) rfl rfl (fun z => z) (by decide) rfl q708 o196.1 o196.2 dX1_init_419 (fun u195 eu195 => ?_)
  have h := h u195 eu195
  refine zc_wk G hp (fun hu195 tu195 => ?_)
  have o198 := h.1
  have h := h.2
  refine zc_putR (f := 193) G M o198 rfl q2221 (Or.inl rfl) (Or.inr ⟨rfl, rfl, rfl⟩) (zfty_193) (Or.inr ⟨_, rfl⟩) rfl dX1_init_421 (fun u197 eu197 => ?_)
  have h := h u197 eu197
  refine zc_wk G hp (fun hu197 tu197 => ?_)
  refine zv_aload_n G rfl rfl dX1_init_424 ?_
  refine zv_ldc (a := 33000) G (G.kn.2.1 _ q2154 _) (by decide) dX1_init_425 ?_
  have o200 := h.1
  have h := h.2
  refine zc_newa (t := 102) (ty := .int) G M (by decide) rfl rfl (fun z => z) (by decide) rfl q708 o200.1 o200.2 dX1_init_427 (fun u199 eu199 => ?_)
  have h := h u199 eu199
  refine zc_wk G hp (fun hu199 tu199 => ?_)
  have o202 := h.1
  have h := h.2
  refine zc_putR (f := 194) G M o202 rfl q2222 (Or.inl rfl) (Or.inr ⟨rfl, rfl, rfl⟩) (zfty_194) (Or.inr ⟨_, rfl⟩) rfl dX1_init_429 (fun u201 eu201 => ?_)
  have h := h u201 eu201
  refine zc_wk G hp (fun hu201 tu201 => ?_)
  refine zv_aload_n G rfl rfl dX1_init_432 ?_
  refine zv_ldc (a := 33000) G (G.kn.2.1 _ q2154 _) (by decide) dX1_init_433 ?_
  have o204 := h.1
  have h := h.2
  refine zc_newa (t := 102) (ty := .int) G M (by decide) rfl rfl (fun z => z) (by decide) rfl q708 o204.1 o204.2 dX1_init_435 (fun u203 eu203 => ?_)
  have h := h u203 eu203
  refine zc_wk G hp (fun hu203 tu203 => ?_)
  have o206 := h.1
  have h := h.2
  refine zc_putR (f := 195) G M o206 rfl q2223 (Or.inl rfl) (Or.inr ⟨rfl, rfl, rfl⟩) (zfty_195) (Or.inr ⟨_, rfl⟩) rfl dX1_init_437 (fun u205 eu205 => ?_)
  have h := h u205 eu205
  refine zc_wk G hp (fun hu205 tu205 => ?_)
  refine zv_aload_n G rfl rfl dX1_init_440 ?_
  refine zv_ldc (a := 33000) G (G.kn.2.1 _ q2154 _) (by decide) dX1_init_441 ?_
  have o208 := h.1
  have h := h.2
  refine zc_newa (t := 104) (ty := .boolean) G M (by decide) rfl rfl (fun z => z) (by decide) rfl q2546 o208.1 o208.2 dX1_init_443 (fun u207 eu207 => ?_)
  have h := h u207 eu207
  refine zc_wk G hp (fun hu207 tu207 => ?_)
  have o210 := h.1
  have h := h.2
  refine zc_putR (f := 196) G M o210 rfl q2224 (Or.inl rfl) (Or.inr ⟨rfl, rfl, rfl⟩) (zfty_196) (Or.inr ⟨_, rfl⟩) rfl dX1_init_445 (fun u209 eu209 => ?_)
  have h := h u209 eu209
  refine zc_wk G hp (fun hu209 tu209 => ?_)
  refine zv_aload_n G rfl rfl dX1_init_448 ?_
  refine zv_bipush (a := 40) G (by decide) dX1_init_449 ?_
  have o212 := h.1
  have h := h.2
  refine zc_newa (t := 104) (ty := .boolean) G M (by decide) rfl rfl (fun z => z) (by decide) rfl q2546 o212.1 o212.2 dX1_init_451 (fun u211 eu211 => ?_)
  have h := h u211 eu211
  refine zc_wk G hp (fun hu211 tu211 => ?_)
  have o214 := h.1
  have h := h.2
  refine zc_putR (f := 197) G M o214 rfl q2225 (Or.inl rfl) (Or.inr ⟨rfl, rfl, rfl⟩) (zfty_197) (Or.inr ⟨_, rfl⟩) rfl dX1_init_453 (fun u213 eu213 => ?_)
  have h := h u213 eu213
  refine zc_wk G hp (fun hu213 tu213 => ?_)
  refine zv_aload_n G rfl rfl dX1_init_456 ?_
  refine zv_sipush (a := 2000) G (by decide) dX1_init_457 ?_
  have o216 := h.1
  have h := h.2
  refine zc_newa (t := 102) (ty := .int) G M (by decide) rfl rfl (fun z => z) (by decide) rfl q708 o216.1 o216.2 dX1_init_460 (fun u215 eu215 => ?_)
  have h := h u215 eu215
  refine zc_wk G hp (fun hu215 tu215 => ?_)
  have o218 := h.1
  have h := h.2
  refine zc_putR (f := 199) G M o218 rfl q2227 (Or.inl rfl) (Or.inr ⟨rfl, rfl, rfl⟩) (zfty_199) (Or.inr ⟨_, rfl⟩) rfl dX1_init_462 (fun u217 eu217 => ?_)
  have h := h u217 eu217
  refine zc_wk G hp (fun hu217 tu217 => ?_)
  refine zv_aload_n G rfl rfl dX1_init_465 ?_
  refine zv_sipush (a := 2000) G (by decide) dX1_init_466 ?_
  have o220 := h.1
  have h := h.2
  refine zc_newa (t := 102) (ty := .int) G M (by decide) rfl rfl (fun z => z) (by decide) rfl q708 o220.1 o220.2 dX1_init_469 (fun u219 eu219 => ?_)
  have h := h u219 eu219
  refine zc_wk G hp (fun hu219 tu219 => ?_)
  have o222 := h.1
  have h := h.2
  refine zc_putR (f := 200) G M o222 rfl q2228 (Or.inl rfl) (Or.inr ⟨rfl, rfl, rfl⟩) (zfty_200) (Or.inr ⟨_, rfl⟩) rfl dX1_init_471 (fun u221 eu221 => ?_)
  have h := h u221 eu221
  refine zc_wk G hp (fun hu221 tu221 => ?_)
  refine zv_aload_n G rfl rfl dX1_init_474 ?_
  refine zv_sipush (a := 2000) G (by decide) dX1_init_475 ?_
  have o224 := h.1
  have h := h.2
  refine zc_newa (t := 102) (ty := .int) G M (by decide) rfl rfl (fun z => z) (by decide) rfl q708 o224.1 o224.2 dX1_init_478 (fun u223 eu223 => ?_)
  have h := h u223 eu223
  refine zc_wk G hp (fun hu223 tu223 => ?_)
  have o226 := h.1
  have h := h.2
  refine zc_putR (f := 201) G M o226 rfl q2229 (Or.inl rfl) (Or.inr ⟨rfl, rfl, rfl⟩) (zfty_201) (Or.inr ⟨_, rfl⟩) rfl dX1_init_480 (fun u225 eu225 => ?_)
  have h := h u225 eu225
  refine zc_wk G hp (fun hu225 tu225 => ?_)
  refine zv_aload_n G rfl rfl dX1_init_483 ?_
  refine zv_sipush (a := 2000) G (by decide) dX1_init_484 ?_
  have o228 := h.1
  have h := h.2
  refine zc_newa (t := 102) (ty := .int) G M (by decide) rfl rfl (fun z => z) (by decide) rfl q708 o228.1 o228.2 dX1_init_487 (fun u227 eu227 => ?_)
  have h := h u227 eu227
  refine zc_wk G hp (fun hu227 tu227 => ?_)
  have o230 := h.1
  have h := h.2
  refine zc_putR (f := 202) G M o230 rfl q2230 (Or.inl rfl) (Or.inr ⟨rfl, rfl, rfl⟩) (zfty_202) (Or.inr ⟨_, rfl⟩) rfl dX1_init_489 (fun u229 eu229 => ?_)
  have h := h u229 eu229
  refine zc_wk G hp (fun hu229 tu229 => ?_)
  refine zv_aload_n G rfl rfl dX1_init_492 ?_
  refine zv_sipush (a := 1700) G (by decide) dX1_init_493 ?_
  have o232 := h.1
  have h := h.2
  refine zc_newa (t := 102) (ty := .int) G M (by decide) rfl rfl (fun z => z) (by decide) rfl q708 o232.1 o232.2 dX1_init_496 (fun u231 eu231 => ?_)
  have h := h u231 eu231
  refine zc_wk G hp (fun hu231 tu231 => ?_)
  have o234 := h.1
  have h := h.2
  refine zc_putR (f := 203) G M o234 rfl q2231 (Or.inl rfl) (Or.inr ⟨rfl, rfl, rfl⟩) (zfty_203) (Or.inr ⟨_, rfl⟩) rfl dX1_init_498 (fun u233 eu233 => ?_)
  have h := h u233 eu233
  refine zc_wk G hp (fun hu233 tu233 => ?_)
  refine zv_aload_n G rfl rfl dX1_init_501 ?_
  refine zv_bipush (a := 13) G (by decide) dX1_init_502 ?_
  have o236 := h.1
  have h := h.2
  refine zc_newa (t := 102) (ty := .int) G M (by decide) rfl rfl (fun z => z) (by decide) rfl q708 o236.1 o236.2 dX1_init_504 (fun u235 eu235 => ?_)
  have h := h u235 eu235
  refine zc_wk G hp (fun hu235 tu235 => ?_)
  have o238 := h.1
  have h := h.2
  refine zc_putR (f := 204) G M o238 rfl q2232 (Or.inl rfl) (Or.inr ⟨rfl, rfl, rfl⟩) (zfty_204) (Or.inr ⟨_, rfl⟩) rfl dX1_init_506 (fun u237 eu237 => ?_)
  have h := h u237 eu237
  refine zc_wk G hp (fun hu237 tu237 => ?_)
  refine zv_aload_n G rfl rfl dX1_init_509 ?_
  refine zv_bipush (a := 13) G (by decide) dX1_init_510 ?_
  have o240 := h.1
  have h := h.2
  refine zc_newa (t := 102) (ty := .int) G M (by decide) rfl rfl (fun z => z) (by decide) rfl q708 o240.1 o240.2 dX1_init_512 (fun u239 eu239 => ?_)
  have h := h u239 eu239
  refine zc_wk G hp (fun hu239 tu239 => ?_)
  have o242 := h.1
  have h := h.2
  refine zc_putR (f := 205) G M o242 rfl q2233 (Or.inl rfl) (Or.inr ⟨rfl, rfl, rfl⟩) (zfty_205) (Or.inr ⟨_, rfl⟩) rfl dX1_init_514 (fun u241 eu241 => ?_)
  have h := h u241 eu241
  refine zc_wk G hp (fun hu241 tu241 => ?_)
  refine zv_aload_n G rfl rfl dX1_init_517 ?_
  refine zv_bipush (a := 13) G (by decide) dX1_init_518 ?_
  have o244 := h.1
  have h := h.2
  refine zc_newa (t := 102) (ty := .int) G M (by decide) rfl rfl (fun z => z) (by decide) rfl q708 o244.1 o244.2 dX1_init_520 (fun u243 eu243 => ?_)
  have h := h u243 eu243
  refine zc_wk G hp (fun hu243 tu243 => ?_)
  have o246 := h.1
  have h := h.2
  refine zc_putR (f := 206) G M o246 rfl q2234 (Or.inl rfl) (Or.inr ⟨rfl, rfl, rfl⟩) (zfty_206) (Or.inr ⟨_, rfl⟩) rfl dX1_init_522 (fun u245 eu245 => ?_)
  have h := h u245 eu245
  refine zc_wk G hp (fun hu245 tu245 => ?_)
  refine zv_aload_n G rfl rfl dX1_init_525 ?_
  refine zv_sipush (a := 3900) G (by decide) dX1_init_526 ?_
  have o248 := h.1
  have h := h.2
  refine zc_newa (t := 102) (ty := .int) G M (by decide) rfl rfl (fun z => z) (by decide) rfl q708 o248.1 o248.2 dX1_init_529 (fun u247 eu247 => ?_)
  have h := h u247 eu247
  refine zc_wk G hp (fun hu247 tu247 => ?_)
  have o250 := h.1
  have h := h.2
  refine zc_putR (f := 207) G M o250 rfl q2235 (Or.inl rfl) (Or.inr ⟨rfl, rfl, rfl⟩) (zfty_207) (Or.inr ⟨_, rfl⟩) rfl dX1_init_531 (fun u249 eu249 => ?_)
  have h := h u249 eu249
  refine zc_wk G hp (fun hu249 tu249 => ?_)
  refine zv_aload_n G rfl rfl dX1_init_534 ?_
  refine zv_sipush (a := 3900) G (by decide) dX1_init_535 ?_
  have o252 := h.1
  have h := h.2
  refine zc_newa (t := 102) (ty := .int) G M (by decide) rfl rfl (fun z => z) (by decide) rfl q708 o252.1 o252.2 dX1_init_538 (fun u251 eu251 => ?_)
  have h := h u251 eu251
  refine zc_wk G hp (fun hu251 tu251 => ?_)
  have o254 := h.1
  have h := h.2
  refine zc_putR (f := 208) G M o254 rfl q2236 (Or.inl rfl) (Or.inr ⟨rfl, rfl, rfl⟩) (zfty_208) (Or.inr ⟨_, rfl⟩) rfl dX1_init_540 (fun u253 eu253 => ?_)
  have h := h u253 eu253
  refine zc_wk G hp (fun hu253 tu253 => ?_)
  refine zv_aload_n G rfl rfl dX1_init_543 ?_
  refine zv_sipush (a := 3900) G (by decide) dX1_init_544 ?_
  have o256 := h.1
  have h := h.2
  refine zc_newa (t := 102) (ty := .int) G M (by decide) rfl rfl (fun z => z) (by decide) rfl q708 o256.1 o256.2 dX1_init_547 (fun u255 eu255 => ?_)
  have h := h u255 eu255
  refine zc_wk G hp (fun hu255 tu255 => ?_)
  have o258 := h.1
  have h := h.2
  refine zc_putR (f := 209) G M o258 rfl q2237 (Or.inl rfl) (Or.inr ⟨rfl, rfl, rfl⟩) (zfty_209) (Or.inr ⟨_, rfl⟩) rfl dX1_init_549 (fun u257 eu257 => ?_)
  have h := h u257 eu257
  refine zc_wk G hp (fun hu257 tu257 => ?_)
  refine zv_aload_n G rfl rfl dX1_init_552 ?_
  refine zv_sipush (a := 3900) G (by decide) dX1_init_553 ?_
  have o260 := h.1
  have h := h.2
  refine zc_newa (t := 102) (ty := .int) G M (by decide) rfl rfl (fun z => z) (by decide) rfl q708 o260.1 o260.2 dX1_init_556 (fun u259 eu259 => ?_)
  have h := h u259 eu259
  refine zc_wk G hp (fun hu259 tu259 => ?_)
  have o262 := h.1
  have h := h.2
  refine zc_putR (f := 210) G M o262 rfl q2238 (Or.inl rfl) (Or.inr ⟨rfl, rfl, rfl⟩) (zfty_210) (Or.inr ⟨_, rfl⟩) rfl dX1_init_558 (fun u261 eu261 => ?_)
  have h := h u261 eu261
  refine zc_wk G hp (fun hu261 tu261 => ?_)
  refine zv_aload_n G rfl rfl dX1_init_561 ?_
  refine zv_sipush (a := 3900) G (by decide) dX1_init_562 ?_
  have o264 := h.1
  have h := h.2
  refine zc_newa (t := 102) (ty := .int) G M (by decide) rfl rfl (fun z => z) (by decide) rfl q708 o264.1 o264.2 dX1_init_565 (fun u263 eu263 => ?_)
  have h := h u263 eu263
  refine zc_wk G hp (fun hu263 tu263 => ?_)
  have o266 := h.1
  have h := h.2
  refine zc_putR (f := 211) G M o266 rfl q2239 (Or.inl rfl) (Or.inr ⟨rfl, rfl, rfl⟩) (zfty_211) (Or.inr ⟨_, rfl⟩) rfl dX1_init_567 (fun u265 eu265 => ?_)
  have h := h u265 eu265
  refine zc_wk G hp (fun hu265 tu265 => ?_)
  refine zv_aload_n G rfl rfl dX1_init_570 ?_
  refine zv_sipush (a := 3900) G (by decide) dX1_init_571 ?_
  have o268 := h.1
  have h := h.2
  refine zc_newa (t := 102) (ty := .int) G M (by decide) rfl rfl (fun z => z) (by decide) rfl q708 o268.1 o268.2 dX1_init_574 (fun u267 eu267 => ?_)
  have h := h u267 eu267
  refine zc_wk G hp (fun hu267 tu267 => ?_)
  have o270 := h.1
  have h := h.2
  refine zc_putR (f := 212) G M o270 rfl q2240 (Or.inl rfl) (Or.inr ⟨rfl, rfl, rfl⟩) (zfty_212) (Or.inr ⟨_, rfl⟩) rfl dX1_init_576 (fun u269 eu269 => ?_)
  have h := h u269 eu269
  refine zc_wk G hp (fun hu269 tu269 => ?_)
  refine zv_aload_n G rfl rfl dX1_init_579 ?_
  refine zv_sipush (a := 3900) G (by decide) dX1_init_580 ?_
  have o272 := h.1
  have h := h.2
  refine zc_newa (t := 102) (ty := .int) G M (by decide) rfl rfl (fun z => z) (by decide) rfl q708 o272.1 o272.2 dX1_init_583 (fun u271 eu271 => ?_)
  have h := h u271 eu271
  refine zc_wk G hp (fun hu271 tu271 => ?_)
  have o274 := h.1
  have h := h.2
  refine zc_putR (f := 213) G M o274 rfl q2241 (Or.inl rfl) (Or.inr ⟨rfl, rfl, rfl⟩) (zfty_213) (Or.inr ⟨_, rfl⟩) rfl dX1_init_585 (fun u273 eu273 => ?_)
  have h := h u273 eu273
  refine zc_wk G hp (fun hu273 tu273 => ?_)
  refine zv_aload_n G rfl rfl dX1_init_588 ?_
  refine zv_sipush (a := 3900) G (by decide) dX1_init_589 ?_
  have o276 := h.1
  have h := h.2
  refine zc_newa (t := 102) (ty := .int) G M (by decide) rfl rfl (fun z => z) (by decide) rfl q708 o276.1 o276.2 dX1_init_592 (fun u275 eu275 => ?_)
  have h := h u275 eu275
  refine zc_wk G hp (fun hu275 tu275 => ?_)
  have o278 := h.1
  have h := h.2
  refine zc_putR (f := 214) G M o278 rfl q2242 (Or.inl rfl) (Or.inr ⟨rfl, rfl, rfl⟩) (zfty_214) (Or.inr ⟨_, rfl⟩) rfl dX1_init_594 (fun u277 eu277 => ?_)
  have h := h u277 eu277
  refine zc_wk G hp (fun hu277 tu277 => ?_)
  refine zv_aload_n G rfl rfl dX1_init_597 ?_
  refine zv_sipush (a := 3900) G (by decide) dX1_init_598 ?_
  have o280 := h.1
  have h := h.2
  refine zc_newa (t := 102) (ty := .int) G M (by decide) rfl rfl (fun z => z) (by decide) rfl q708 o280.1 o280.2 dX1_init_601 (fun u279 eu279 => ?_)
  have h := h u279 eu279
  refine zc_wk G hp (fun hu279 tu279 => ?_)
  have o282 := h.1
  have h := h.2
  refine zc_putR (f := 215) G M o282 rfl q2243 (Or.inl rfl) (Or.inr ⟨rfl, rfl, rfl⟩) (zfty_215) (Or.inr ⟨_, rfl⟩) rfl dX1_init_603 (fun u281 eu281 => ?_)
  have h := h u281 eu281
  refine zc_wk G hp (fun hu281 tu281 => ?_)
  refine zv_aload_n G rfl rfl dX1_init_606 ?_
  refine zv_sipush (a := 3900) G (by decide) dX1_init_607 ?_
  have o284 := h.1
  have h := h.2
  refine zc_newa (t := 102) (ty := .int) G M (by decide) rfl rfl (fun z => z) (by decide) rfl q708 o284.1 o284.2 dX1_init_610 (fun u283 eu283 => ?_)
  have h := h u283 eu283
  refine zc_wk G hp (fun hu283 tu283 => ?_)
  have o286 := h.1
  have h := h.2
  refine zc_putR (f := 216) G M o286 rfl q2244 (Or.inl rfl) (Or.inr ⟨rfl, rfl, rfl⟩) (zfty_216) (Or.inr ⟨_, rfl⟩) rfl dX1_init_612 (fun u285 eu285 => ?_)
  have h := h u285 eu285
  refine zc_wk G hp (fun hu285 tu285 => ?_)
  refine zv_aload_n G rfl rfl dX1_init_615 ?_
  refine zv_sipush (a := 3900) G (by decide) dX1_init_616 ?_
  have o288 := h.1
  have h := h.2
  refine zc_newa (t := 102) (ty := .int) G M (by decide) rfl rfl (fun z => z) (by decide) rfl q708 o288.1 o288.2 dX1_init_619 (fun u287 eu287 => ?_)
  have h := h u287 eu287
  refine zc_wk G hp (fun hu287 tu287 => ?_)
  have o290 := h.1
  have h := h.2
  refine zc_putR (f := 217) G M o290 rfl q2245 (Or.inl rfl) (Or.inr ⟨rfl, rfl, rfl⟩) (zfty_217) (Or.inr ⟨_, rfl⟩) rfl dX1_init_621 (fun u289 eu289 => ?_)
  have h := h u289 eu289
  refine zc_wk G hp (fun hu289 tu289 => ?_)
  refine zv_aload_n G rfl rfl dX1_init_624 ?_
  refine zv_sipush (a := 3900) G (by decide) dX1_init_625 ?_
  have o292 := h.1
  have h := h.2
  refine zc_newa (t := 103) (ty := .long) G M (by decide) rfl rfl (fun z => z) (by decide) rfl q1261 o292.1 o292.2 dX1_init_628 (fun u291 eu291 => ?_)
  have h := h u291 eu291
  refine zc_wk G hp (fun hu291 tu291 => ?_)
  have o294 := h.1
  have h := h.2
  refine zc_putR (f := 218) G M o294 rfl q2246 (Or.inl rfl) (Or.inr ⟨rfl, rfl, rfl⟩) (zfty_218) (Or.inr ⟨_, rfl⟩) rfl dX1_init_630 (fun u293 eu293 => ?_)
  have h := h u293 eu293
  refine zc_wk G hp (fun hu293 tu293 => ?_)
  refine zv_aload_n G rfl rfl dX1_init_633 ?_
  refine zv_sipush (a := 3900) G (by decide) dX1_init_634 ?_
  have o296 := h.1
  have h := h.2
  refine zc_newa (t := 104) (ty := .boolean) G M (by decide) rfl rfl (fun z => z) (by decide) rfl q2546 o296.1 o296.2 dX1_init_637 (fun u295 eu295 => ?_)
  have h := h u295 eu295
  refine zc_wk G hp (fun hu295 tu295 => ?_)
  have o298 := h.1
  have h := h.2
  refine zc_putR (f := 219) G M o298 rfl q2247 (Or.inl rfl) (Or.inr ⟨rfl, rfl, rfl⟩) (zfty_219) (Or.inr ⟨_, rfl⟩) rfl dX1_init_639 (fun u297 eu297 => ?_)
  have h := h u297 eu297
  refine zc_wk G hp (fun hu297 tu297 => ?_)
  refine zv_aload_n G rfl rfl dX1_init_642 ?_
  refine zv_sipush (a := 400) G (by decide) dX1_init_643 ?_
  have o300 := h.1
  have h := h.2
  refine zc_newa (t := 102) (ty := .int) G M (by decide) rfl rfl (fun z => z) (by decide) rfl q708 o300.1 o300.2 dX1_init_646 (fun u299 eu299 => ?_)
  have h := h u299 eu299
  refine zc_wk G hp (fun hu299 tu299 => ?_)
  have o302 := h.1
  have h := h.2
  refine zc_putR (f := 221) G M o302 rfl q2249 (Or.inl rfl) (Or.inr ⟨rfl, rfl, rfl⟩) (zfty_221) (Or.inr ⟨_, rfl⟩) rfl dX1_init_648 (fun u301 eu301 => ?_)
  have h := h u301 eu301
  refine zc_wk G hp (fun hu301 tu301 => ?_)
  refine zv_aload_n G rfl rfl dX1_init_651 ?_
  refine zv_sipush (a := 400) G (by decide) dX1_init_652 ?_
  have o304 := h.1
  have h := h.2
  refine zc_newa (t := 102) (ty := .int) G M (by decide) rfl rfl (fun z => z) (by decide) rfl q708 o304.1 o304.2 dX1_init_655 (fun u303 eu303 => ?_)
  have h := h u303 eu303
  refine zc_wk G hp (fun hu303 tu303 => ?_)
  have o306 := h.1
  have h := h.2
  refine zc_putR (f := 222) G M o306 rfl q2250 (Or.inl rfl) (Or.inr ⟨rfl, rfl, rfl⟩) (zfty_222) (Or.inr ⟨_, rfl⟩) rfl dX1_init_657 (fun u305 eu305 => ?_)
  have h := h u305 eu305
  refine zc_wk G hp (fun hu305 tu305 => ?_)
  refine zv_aload_n G rfl rfl dX1_init_660 ?_
  refine zv_sipush (a := 400) G (by decide) dX1_init_661 ?_
  have o308 := h.1
  have h := h.2
  refine zc_newa (t := 102) (ty := .int) G M (by decide) rfl rfl (fun z => z) (by decide) rfl q708 o308.1 o308.2 dX1_init_664 (fun u307 eu307 => ?_)
  have h := h u307 eu307
  refine zc_wk G hp (fun hu307 tu307 => ?_)
  have o310 := h.1
  have h := h.2
  refine zc_putR (f := 223) G M o310 rfl q2251 (Or.inl rfl) (Or.inr ⟨rfl, rfl, rfl⟩) (zfty_223) (Or.inr ⟨_, rfl⟩) rfl dX1_init_666 (fun u309 eu309 => ?_)
  have h := h u309 eu309
  refine zc_wk G hp (fun hu309 tu309 => ?_)
  refine zv_aload_n G rfl rfl dX1_init_669 ?_
  refine zv_sipush (a := 400) G (by decide) dX1_init_670 ?_
  have o312 := h.1
  have h := h.2
  refine zc_newa (t := 103) (ty := .long) G M (by decide) rfl rfl (fun z => z) (by decide) rfl q1261 o312.1 o312.2 dX1_init_673 (fun u311 eu311 => ?_)
  have h := h u311 eu311
  refine zc_wk G hp (fun hu311 tu311 => ?_)
  have o314 := h.1
  have h := h.2
  refine zc_putR (f := 224) G M o314 rfl q2252 (Or.inl rfl) (Or.inr ⟨rfl, rfl, rfl⟩) (zfty_224) (Or.inr ⟨_, rfl⟩) rfl dX1_init_675 (fun u313 eu313 => ?_)
  have h := h u313 eu313
  refine zc_wk G hp (fun hu313 tu313 => ?_)
  refine zv_aload_n G rfl rfl dX1_init_678 ?_
  refine zv_sipush (a := 400) G (by decide) dX1_init_679 ?_
  have o316 := h.1
  have h := h.2
  refine zc_newa (t := 104) (ty := .boolean) G M (by decide) rfl rfl (fun z => z) (by decide) rfl q2546 o316.1 o316.2 dX1_init_682 (fun u315 eu315 => ?_)
  have h := h u315 eu315
  refine zc_wk G hp (fun hu315 tu315 => ?_)
  have o318 := h.1
  have h := h.2
  refine zc_putR (f := 225) G M o318 rfl q2253 (Or.inl rfl) (Or.inr ⟨rfl, rfl, rfl⟩) (zfty_225) (Or.inr ⟨_, rfl⟩) rfl dX1_init_684 (fun u317 eu317 => ?_)
  have h := h u317 eu317
  refine zc_wk G hp (fun hu317 tu317 => ?_)
  refine zv_aload_n G rfl rfl dX1_init_687 ?_
  refine zv_bipush (a := 100) G (by decide) dX1_init_688 ?_
  have o320 := h.1
  have h := h.2
  refine zc_newa (t := 102) (ty := .int) G M (by decide) rfl rfl (fun z => z) (by decide) rfl q708 o320.1 o320.2 dX1_init_690 (fun u319 eu319 => ?_)
  have h := h u319 eu319
  refine zc_wk G hp (fun hu319 tu319 => ?_)
  have o322 := h.1
  have h := h.2
  refine zc_putR (f := 227) G M o322 rfl q2255 (Or.inl rfl) (Or.inr ⟨rfl, rfl, rfl⟩) (zfty_227) (Or.inr ⟨_, rfl⟩) rfl dX1_init_692 (fun u321 eu321 => ?_)
  have h := h u321 eu321
  refine zc_wk G hp (fun hu321 tu321 => ?_)
  refine zv_aload_n G rfl rfl dX1_init_695 ?_
  refine zv_bipush (a := 100) G (by decide) dX1_init_696 ?_
  have o324 := h.1
  have h := h.2
  refine zc_newa (t := 102) (ty := .int) G M (by decide) rfl rfl (fun z => z) (by decide) rfl q708 o324.1 o324.2 dX1_init_698 (fun u323 eu323 => ?_)
  have h := h u323 eu323
  refine zc_wk G hp (fun hu323 tu323 => ?_)
  have o326 := h.1
  have h := h.2
  refine zc_putR (f := 228) G M o326 rfl q2256 (Or.inl rfl) (Or.inr ⟨rfl, rfl, rfl⟩) (zfty_228) (Or.inr ⟨_, rfl⟩) rfl dX1_init_700 (fun u325 eu325 => ?_)
  have h := h u325 eu325
  refine zc_wk G hp (fun hu325 tu325 => ?_)
  refine zv_aload_n G rfl rfl dX1_init_703 ?_
  refine zv_bipush (a := 100) G (by decide) dX1_init_704 ?_
  have o328 := h.1
  have h := h.2
  refine zc_newa (t := 103) (ty := .long) G M (by decide) rfl rfl (fun z => z) (by decide) rfl q1261 o328.1 o328.2 dX1_init_706 (fun u327 eu327 => ?_)
  have h := h u327 eu327
  refine zc_wk G hp (fun hu327 tu327 => ?_)
  have o330 := h.1
  have h := h.2
  refine zc_putR (f := 229) G M o330 rfl q2257 (Or.inl rfl) (Or.inr ⟨rfl, rfl, rfl⟩) (zfty_229) (Or.inr ⟨_, rfl⟩) rfl dX1_init_708 (fun u329 eu329 => ?_)
  have h := h u329 eu329
  refine zc_wk G hp (fun hu329 tu329 => ?_)
  refine zv_aload_n G rfl rfl dX1_init_711 ?_
  refine zv_bipush (a := 100) G (by decide) dX1_init_712 ?_
  have o332 := h.1
  have h := h.2
  refine zc_newa (t := 104) (ty := .boolean) G M (by decide) rfl rfl (fun z => z) (by decide) rfl q2546 o332.1 o332.2 dX1_init_714 (fun u331 eu331 => ?_)
  have h := h u331 eu331
  refine zc_wk G hp (fun hu331 tu331 => ?_)
  have o334 := h.1
  have h := h.2
  refine zc_putR (f := 230) G M o334 rfl q2258 (Or.inl rfl) (Or.inr ⟨rfl, rfl, rfl⟩) (zfty_230) (Or.inr ⟨_, rfl⟩) rfl dX1_init_716 (fun u333 eu333 => ?_)
  have h := h u333 eu333
  refine zc_wk G hp (fun hu333 tu333 => ?_)
  refine zv_aload_n G rfl rfl dX1_init_719 ?_
  refine zv_bipush (a := 100) G (by decide) dX1_init_720 ?_
  have o336 := h.1
  have h := h.2
  refine zc_newa (t := 103) (ty := .long) G M (by decide) rfl rfl (fun z => z) (by decide) rfl q1261 o336.1 o336.2 dX1_init_722 (fun u335 eu335 => ?_)
  have h := h u335 eu335
  refine zc_wk G hp (fun hu335 tu335 => ?_)
  have o338 := h.1
  have h := h.2
  refine zc_putR (f := 231) G M o338 rfl q2259 (Or.inl rfl) (Or.inr ⟨rfl, rfl, rfl⟩) (zfty_231) (Or.inr ⟨_, rfl⟩) rfl dX1_init_724 (fun u337 eu337 => ?_)
  have h := h u337 eu337
  refine zc_wk G hp (fun hu337 tu337 => ?_)
  refine zv_aload_n G rfl rfl dX1_init_727 ?_
  refine zv_sipush (a := 300) G (by decide) dX1_init_728 ?_
  have o340 := h.1
  have h := h.2
  refine zc_newa (t := 102) (ty := .int) G M (by decide) rfl rfl (fun z => z) (by decide) rfl q708 o340.1 o340.2 dX1_init_731 (fun u339 eu339 => ?_)
  have h := h u339 eu339
  refine zc_wk G hp (fun hu339 tu339 => ?_)
  have o342 := h.1
  have h := h.2
  refine zc_putR (f := 233) G M o342 rfl q2261 (Or.inl rfl) (Or.inr ⟨rfl, rfl, rfl⟩) (zfty_233) (Or.inr ⟨_, rfl⟩) rfl dX1_init_733 (fun u341 eu341 => ?_)
  have h := h u341 eu341
  refine zc_wk G hp (fun hu341 tu341 => ?_)
  refine zv_aload_n G rfl rfl dX1_init_736 ?_
  refine zv_sipush (a := 300) G (by decide) dX1_init_737 ?_
  have o344 := h.1
  have h := h.2
  refine zc_newa (t := 102) (ty := .int) G M (by decide) rfl rfl (fun z => z) (by decide) rfl q708 o344.1 o344.2 dX1_init_740 (fun u343 eu343 => ?_)
  have h := h u343 eu343
  refine zc_wk G hp (fun hu343 tu343 => ?_)
  have o346 := h.1
  have h := h.2
  refine zc_putR (f := 234) G M o346 rfl q2262 (Or.inl rfl) (Or.inr ⟨rfl, rfl, rfl⟩) (zfty_234) (Or.inr ⟨_, rfl⟩) rfl dX1_init_742 (fun u345 eu345 => ?_)
  have h := h u345 eu345
  refine zc_wk G hp (fun hu345 tu345 => ?_)
  refine zv_aload_n G rfl rfl dX1_init_745 ?_
  refine zv_sipush (a := 192) G (by decide) dX1_init_746 ?_
  have o348 := h.1
  have h := h.2
  refine zc_newa (t := 104) (ty := .boolean) G M (by decide) rfl rfl (fun z => z) (by decide) rfl q2546 o348.1 o348.2 dX1_init_749 (fun u347 eu347 => ?_)
  have h := h u347 eu347
  refine zc_wk G hp (fun hu347 tu347 => ?_)
  have o350 := h.1
  have h := h.2
  refine zc_putR (f := 235) G M o350 rfl q2263 (Or.inl rfl) (Or.inr ⟨rfl, rfl, rfl⟩) (zfty_235) (Or.inr ⟨_, rfl⟩) rfl dX1_init_751 (fun u349 eu349 => ?_)
  have h := h u349 eu349
  refine zc_wk G hp (fun hu349 tu349 => ?_)
  refine zv_aload_n G rfl rfl dX1_init_754 ?_
  refine zv_sipush (a := 160) G (by decide) dX1_init_755 ?_
  have o352 := h.1
  have h := h.2
  refine zc_newa (t := 102) (ty := .int) G M (by decide) rfl rfl (fun z => z) (by decide) rfl q708 o352.1 o352.2 dX1_init_758 (fun u351 eu351 => ?_)
  have h := h u351 eu351
  refine zc_wk G hp (fun hu351 tu351 => ?_)
  have o354 := h.1
  have h := h.2
  refine zc_putR (f := 237) G M o354 rfl q2265 (Or.inl rfl) (Or.inr ⟨rfl, rfl, rfl⟩) (zfty_237) (Or.inr ⟨_, rfl⟩) rfl dX1_init_760 (fun u353 eu353 => ?_)
  have h := h u353 eu353
  refine zc_wk G hp (fun hu353 tu353 => ?_)
  refine zv_aload_n G rfl rfl dX1_init_763 ?_
  refine zv_sipush (a := 160) G (by decide) dX1_init_764 ?_
  have o356 := h.1
  have h := h.2
  refine zc_newa (t := 102) (ty := .int) G M (by decide) rfl rfl (fun z => z) (by decide) rfl q708 o356.1 o356.2 dX1_init_767 (fun u355 eu355 => ?_)
  have h := h u355 eu355
  refine zc_wk G hp (fun hu355 tu355 => ?_)
  have o358 := h.1
  have h := h.2
  refine zc_putR (f := 238) G M o358 rfl q2266 (Or.inl rfl) (Or.inr ⟨rfl, rfl, rfl⟩) (zfty_238) (Or.inr ⟨_, rfl⟩) rfl dX1_init_769 (fun u357 eu357 => ?_)
  have h := h u357 eu357
  refine zc_wk G hp (fun hu357 tu357 => ?_)
  refine zv_aload_n G rfl rfl dX1_init_772 ?_
  refine zv_sipush (a := 160) G (by decide) dX1_init_773 ?_
  have o360 := h.1
  have h := h.2
  refine zc_newa (t := 103) (ty := .long) G M (by decide) rfl rfl (fun z => z) (by decide) rfl q1261 o360.1 o360.2 dX1_init_776 (fun u359 eu359 => ?_)
  have h := h u359 eu359
  refine zc_wk G hp (fun hu359 tu359 => ?_)
  have o362 := h.1
  have h := h.2
  refine zc_putR (f := 239) G M o362 rfl q2267 (Or.inl rfl) (Or.inr ⟨rfl, rfl, rfl⟩) (zfty_239) (Or.inr ⟨_, rfl⟩) rfl dX1_init_778 (fun u361 eu361 => ?_)
  have h := h u361 eu361
  refine zc_wk G hp (fun hu361 tu361 => ?_)
  refine zv_aload_n G rfl rfl dX1_init_781 ?_
  refine zv_sipush (a := 160) G (by decide) dX1_init_782 ?_
  have o364 := h.1
  have h := h.2
  refine zc_newa (t := 102) (ty := .int) G M (by decide) rfl rfl (fun z => z) (by decide) rfl q708 o364.1 o364.2 dX1_init_785 (fun u363 eu363 => ?_)
  have h := h u363 eu363
  refine zc_wk G hp (fun hu363 tu363 => ?_)
  have o366 := h.1
  have h := h.2
  refine zc_putR (f := 240) G M o366 rfl q2268 (Or.inl rfl) (Or.inr ⟨rfl, rfl, rfl⟩) (zfty_240) (Or.inr ⟨_, rfl⟩) rfl dX1_init_787 (fun u365 eu365 => ?_)
  have h := h u365 eu365
  refine zc_wk G hp (fun hu365 tu365 => ?_)
  refine zv_aload_n G rfl rfl dX1_init_790 ?_
  refine zv_sipush (a := 640) G (by decide) dX1_init_791 ?_
  have o368 := h.1
  have h := h.2
  refine zc_newa (t := 102) (ty := .int) G M (by decide) rfl rfl (fun z => z) (by decide) rfl q708 o368.1 o368.2 dX1_init_794 (fun u367 eu367 => ?_)
  have h := h u367 eu367
  refine zc_wk G hp (fun hu367 tu367 => ?_)
  have o370 := h.1
  have h := h.2
  refine zc_putR (f := 241) G M o370 rfl q2269 (Or.inl rfl) (Or.inr ⟨rfl, rfl, rfl⟩) (zfty_241) (Or.inr ⟨_, rfl⟩) rfl dX1_init_796 (fun u369 eu369 => ?_)
  have h := h u369 eu369
  refine zc_wk G hp (fun hu369 tu369 => ?_)
  refine zv_aload_n G rfl rfl dX1_init_799 ?_
  refine zv_sipush (a := 300) G (by decide) dX1_init_800 ?_
  have o372 := h.1
  have h := h.2
  refine zc_newa (t := 102) (ty := .int) G M (by decide) rfl rfl (fun z => z) (by decide) rfl q708 o372.1 o372.2 dX1_init_803 (fun u371 eu371 => ?_)
  have h := h u371 eu371
  refine zc_wk G hp (fun hu371 tu371 => ?_)
  have o374 := h.1
  have h := h.2
  refine zc_putR (f := 242) G M o374 rfl q2270 (Or.inl rfl) (Or.inr ⟨rfl, rfl, rfl⟩) (zfty_242) (Or.inr ⟨_, rfl⟩) rfl dX1_init_805 (fun u373 eu373 => ?_)
  have h := h u373 eu373
  refine zc_wk G hp (fun hu373 tu373 => ?_)
  refine zv_aload_n G rfl rfl dX1_init_808 ?_
  refine zv_sipush (a := 300) G (by decide) dX1_init_809 ?_
  have o376 := h.1
  have h := h.2
  refine zc_newa (t := 102) (ty := .int) G M (by decide) rfl rfl (fun z => z) (by decide) rfl q708 o376.1 o376.2 dX1_init_812 (fun u375 eu375 => ?_)
  have h := h u375 eu375
  refine zc_wk G hp (fun hu375 tu375 => ?_)
  have o378 := h.1
  have h := h.2
  refine zc_putR (f := 243) G M o378 rfl q2271 (Or.inl rfl) (Or.inr ⟨rfl, rfl, rfl⟩) (zfty_243) (Or.inr ⟨_, rfl⟩) rfl dX1_init_814 (fun u377 eu377 => ?_)
  have h := h u377 eu377
  refine zc_wk G hp (fun hu377 tu377 => ?_)
  refine zv_aload_n G rfl rfl dX1_init_817 ?_
  refine zv_iconst (a := 3) G (by decide) dX1_init_818 ?_
  have o380 := h.1
  have h := h.2
  refine zc_newa (t := 102) (ty := .int) G M (by decide) rfl rfl (fun z => z) (by decide) rfl q708 o380.1 o380.2 dX1_init_819 (fun u379 eu379 => ?_)
  have h := h u379 eu379
  refine zc_wk G hp (fun hu379 tu379 => ?_)
  have o382 := h.1
  have h := h.2
  refine zc_putR (f := 244) G M o382 rfl q2272 (Or.inl rfl) (Or.inr ⟨rfl, rfl, rfl⟩) (zfty_244) (Or.inr ⟨_, rfl⟩) rfl dX1_init_821 (fun u381 eu381 => ?_)
  have h := h u381 eu381
  refine zc_wk G hp (fun hu381 tu381 => ?_)
  refine zv_aload_n G rfl rfl dX1_init_824 ?_
  refine zv_bipush (a := 8) G (by decide) dX1_init_825 ?_
  have o384 := h.1
  have h := h.2
  refine zc_newa (t := 102) (ty := .int) G M (by decide) rfl rfl (fun z => z) (by decide) rfl q708 o384.1 o384.2 dX1_init_827 (fun u383 eu383 => ?_)
  have h := h u383 eu383
  refine zc_wk G hp (fun hu383 tu383 => ?_)
  have o386 := h.1
  have h := h.2
  refine zc_putR (f := 245) G M o386 rfl q2273 (Or.inl rfl) (Or.inr ⟨rfl, rfl, rfl⟩) (zfty_245) (Or.inr ⟨_, rfl⟩) rfl dX1_init_829 (fun u385 eu385 => ?_)
  have h := h u385 eu385
  refine zc_wk G hp (fun hu385 tu385 => ?_)
  refine zv_aload_n G rfl rfl dX1_init_832 ?_
  refine zv_bipush (a := 32) G (by decide) dX1_init_833 ?_
  have o388 := h.1
  have h := h.2
  refine zc_newa (t := 102) (ty := .int) G M (by decide) rfl rfl (fun z => z) (by decide) rfl q708 o388.1 o388.2 dX1_init_835 (fun u387 eu387 => ?_)
  have h := h u387 eu387
  refine zc_wk G hp (fun hu387 tu387 => ?_)
  have o390 := h.1
  have h := h.2
  refine zc_putR (f := 254) G M o390 rfl q2282 (Or.inl rfl) (Or.inr ⟨rfl, rfl, rfl⟩) (zfty_254) (Or.inr ⟨_, rfl⟩) rfl dX1_init_837 (fun u389 eu389 => ?_)
  have h := h u389 eu389
  refine zc_wk G hp (fun hu389 tu389 => ?_)
  refine zv_aload_n G rfl rfl dX1_init_840 ?_
  refine zv_bipush (a := 8) G (by decide) dX1_init_841 ?_
  have o392 := h.1
  have h := h.2
  refine zc_newa (t := 102) (ty := .int) G M (by decide) rfl rfl (fun z => z) (by decide) rfl q708 o392.1 o392.2 dX1_init_843 (fun u391 eu391 => ?_)
  have h := h u391 eu391
  refine zc_wk G hp (fun hu391 tu391 => ?_)
  have o394 := h.1
  have h := h.2
  refine zc_putR (f := 256) G M o394 rfl q2284 (Or.inl rfl) (Or.inr ⟨rfl, rfl, rfl⟩) (zfty_256) (Or.inr ⟨_, rfl⟩) rfl dX1_init_845 (fun u393 eu393 => ?_)
  have h := h u393 eu393
  refine zc_wk G hp (fun hu393 tu393 => ?_)
  exact zv_vret G M dX1_init_848 h
end ZCC2
