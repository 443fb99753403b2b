/-! node, branch: both -/
section ZApind
variable {p b e d f F n lo wy base lt : Nat} {w wS : CW} {τ σ ρ τ0 : TW} {rs : List (Nat × Nat)} {ps : List Pa} {ro : Nat × Nat → Nat}
theorem i_and7 (y : Int) : i_and y 7 = y % 8 := by
  rw [i_and_def]
  unfold zi
  rw [← Int32.toInt_toBitVec, Int32.toBitVec_and, Int32.toBitVec_ofInt, Int32.toBitVec_ofInt]
  have e : (BitVec.ofInt 32 y &&& BitVec.ofInt 32 7).toNat = (y % 8).toNat := by
    rw [BitVec.toNat_and, BitVec.toNat_ofInt]
    have : (BitVec.ofInt 32 7).toNat = 2^3 - 1 := by decide
    rw [this, Nat.and_two_pow_sub_one_eq_mod]
    omega
  rw [BitVec.toInt_eq_toNat_of_lt (by rw [e]; omega), e]
  omega
theorem shr_no : i_shr (-4) 3 ≤ 0 := by
  rw [i_shr_def]
  decide
/-- a node is found by both -/
theorem sC_getNode {i F' : Nat} (hC2 : CTn p w w τ0 f F ps rs ro wy lt 121 [] 0 F') (hi : i < tsz τ0 rs wy 121 []) (hN : tsz τ0 rs wy 121 [] ≤ 120) {Q : ZRes → CW → Prop} (hQ : ∀ m P r', (nds τ0 rs wy 121 [])[i]? = some (m + 1, P) → CTn p w w τ0 f F ps rs ro wy lt (m + 1) P i r' → Q (.inl (some (ar r'))) w) (hm : ∀ y, (nds τ0 rs wy 121 [])[i]? = some y → ∃ m, y.1 = m + 1) : wpC p (d + 1) 155 [ar F', ai (i : Nat)] w Q := by
  refine wC_X21_find (Nat.zero_le _) (bC_X21_find_0 (bC_X21_find_2 (fun I2 hI => ?_)))
  have hl : i < (nds τ0 rs wy 121 []).length := by rw [nds_len]; exact hi
  obtain ⟨y, hy⟩ : ∃ y, (nds τ0 rs wy 121 [])[i]? = some y := ⟨_, List.getElem?_eq_getElem hl⟩
  obtain ⟨m, em⟩ := hm y hy
  obtain ⟨y1, y2⟩ := y
  simp only at em
  subst em
  exact sC_find (k := i) 121 [] 0 F' hC2 (by omega) i _ hy (by omega) (fun r' c => hQ m y2 r' hy c) I2 hI
theorem api_node {x1 x2 x3 : Int} (h : INV p w τ) {K : Int → Int → CW → TW → Prop} (h1 : ∀ v : Int, K v v w τ) : wpC p (d + 251) 52 [ar p, ai x1, ai x2, ai x3] w (zqI (fun v w' => wpT (e + 12) 74 [ai x1, ai x2, ai x3] τ (zqI (fun v' τ' => K v v' w' τ') zno)) zno) := by
  have rg : ff_isFunction x1 τ = 0 ∨ (0 ≤ x1 ∧ x1 < 13) := by
    by_cases z : 0 ≤ x1 ∧ x1 < 13
    · exact Or.inr z
    · left
      obtain ⟨-, -, -, -, hT, -⟩ := h
      have m3 : tI τ 41 ≤ 12 ∧ 0 ≤ tI τ 41 := by
        rcases hT with ⟨-, -, ⟨-, a, b⟩, -⟩ | ⟨h22, B⟩
        · omega
        · have := B.2.1.2.2; omega
      unfold ff_isFunction
      rw [w32_s (by omega) (by omega)]
      exact ff_in_0 (by omega)
  have no : (ff_isFunction x1 τ = 0 ∨ (ff_in x2 0 (w32 (tA τ 77 x1 - 1)) τ = 0 ∨ ff_in x3 0 4 τ = 0)) → pC_X0_node_21 p (wpC p (d + 250)) (fun v w' => zqI (fun v w' => wpT (e + 12) 74 [ai x1, ai x2, ai x3] τ (zqI (fun v' τ' => K v v' w' τ') zno)) zno (.inl (some (ai v))) w') w := fun z => bC_X0_node_21 (wT_node (by omega) (bT_node_0 ⟨fun y => by rcases rg with q | q; exact absurd q y; exact q, br1 z (bT_node_38 (h1 _))⟩))
  refine wC_X0_node (Nat.zero_le _) (bC_X0_node_0 (sC_isNode (d := d) h (fun f i hf hi hfn hB hN e1 => br0 (by decide) ?_) (fun z => br1 rfl (no (by rcases z with z | z; exact Or.inl z; exact Or.inr (Or.inl z.2))))))
  refine sC_isIn (τ := τ) (d := d + 249) ?_
  by_cases z3 : 0 ≤ x3 ∧ x3 ≤ 4
  · rw [ff_in_1 z3]
    obtain ⟨q1, q2, q3, q4⟩ := hB.fob hfn
    obtain ⟨A, lo, ps, ro, ru, lt, τ0, wy, hL, ⟨⟨hC1, hC2⟩, hlt⟩, hT, -, hkx, hCX, hSP⟩ := hB.2.2.1 f hfn
    have h12 : f < 12 := by have := hB.2.1.2.2.2.1; omega
    subst hf
    subst hi
    have q2' : aR w (fR w 5 p) (f : Int) = fnr w p f := q2
    obtain ⟨F, eF⟩ : ∃ F, F = fnr w p f := ⟨_, rfl⟩
    rw [← eF] at hL hC1 hC2 q2' q3 q4
    obtain ⟨rs, ers⟩ : ∃ rs, rs = rowsK τ0 f 0 (rk τ f) := ⟨_, rfl⟩
    have err : rowsK τ f 0 (rk τ f) = rs := by rw [ers]; exact x_rowsK hkx f 0 _
    have e77 := hT.1.1
    have hb := hT.2.2.2
    have hTT := hT.2.1
    rw [← ers] at hC2 e77 hb hTT hCX hSP
    have hin : i < tsz τ0 rs wy 121 [] := by omega
    have hrus := fun i hi => hL.rus (i := i) hi
    obtain ⟨-, -, -, -, -, a12, -⟩ := id hL
    rw [err] at a12
    obtain ⟨-, hPL, -, hRW, -⟩ := a12
    have ex4 : w32 (w32 (300 * (f : Int)) + (i : Int)) = ((300 * f + i : Nat) : Int) := by rw [w32_s (a := 300 * (f : Int)) (by omega) (by omega), w32_s (by omega) (by omega)]; omega
    have e2 : ff_in (i : Int) 0 (w32 (tA τ 77 f - 1)) τ = 1 := by
      rw [w32_s (by omega) (by omega)]
      exact ff_in_1 (by omega)
    have topT : ∀ Q : Int → TW → Prop, ((x3 = 0 → Q (tA τ 80 (300 * f + i : Nat)) τ) ∧ (x3 = 1 → Q (if tA τ 81 (300 * f + i : Nat) = -4 then -4 else i_rem (tA τ 81 (300 * f + i : Nat)) 16) τ) ∧ (x3 = 2 → Q (tA τ 84 (300 * f + i : Nat)) τ) ∧ (x3 = 3 → pT_node_138 (wpT (e + 11)) Q (300 * f + i : Nat) 0 (i_shr (tA τ 83 (300 * f + i : Nat)) 3) τ) ∧ (x3 = 4 → Q (if tA τ 83 (300 * f + i : Nat) = -4 then -4 else w32 (i_and (tA τ 83 (300 * f + i : Nat)) 7 - 1)) τ)) → wpT (e + 12) 74 [ai (f : Int), ai (i : Int), ai x3] τ (zqI Q zno) := fun Q hQ => by
      refine wT_node (by omega) (bT_node_0 ⟨fun _ => by omega, br0 (fun y => ?_) (fa ?_)⟩)
      · rcases y with y | y | y
        · rw [e1] at y; cases y
        · rw [e2] at y; cases y
        · rw [ff_in_1 z3] at y; cases y
      · rw [ex4]
        exact ⟨fun q => ⟨by omega, hQ.1 q⟩, fun q => ⟨by omega, fun _ => by omega, fa (hQ.2.1 q)⟩, fun q => ⟨by omega, hQ.2.2.1 q⟩, fun q => ⟨by omega, fa (hQ.2.2.2.1 q)⟩, fun n0 n1 n2 n3 => ⟨by omega, fun _ => by omega, fa (hQ.2.2.2.2 (by omega))⟩⟩
    refine br0 (by decide) ⟨q1, ?_⟩
    rw [q2']
    refine ⟨by rw [q3]; decide, nd_tag hC2.1.2.1, ?_⟩
    refine sC_getNode (d := d + 249) hC2 hin hb (fun m P r' hy c => ?_) (fun y hy => by obtain ⟨m, h1, -⟩ := TT.nd 121 [] 0 hTT i y hy; exact ⟨m, h1⟩)
    have tt : TT τ0 τ rs wy (300 * f) (m + 1) P i := by
      obtain ⟨m', g1, g2⟩ := TT.nd 121 [] 0 hTT i _ hy
      have : m' = m := by simpa using g1.symm
      subst this
      rw [Nat.zero_add] at g2
      exact g2
    obtain ⟨⟨d1, d2, d3⟩, ⟨k1, k2, k3⟩, -, d4, -⟩ := id c
    obtain ⟨b84, hcase⟩ := nd_both hCX hSP d4 tt.2.1
    have hrow : ∀ y, y ∈ rs → tg w (ro y) = 14 ∧ fR w 80 (ro y) = ru y.1 ∧ tg w (ru y.1) = 5 ∧ ∃ j : Nat, j < 16 ∧ y.1 = 16 * f + j ∧ fI w 56 (ru y.1) = j := fun y hy => by
      have r := hRW y hy
      rw [← err] at hy
      obtain ⟨j, j1, j2, -⟩ := (rowsK_mem _).mp hy
      obtain ⟨_, _, rr⟩ := hrus j j1
      have r5 := rr.ob56
      rw [← j2] at r5
      have : rk τ f ≤ 16 := hL.2.2.1.choose_spec.choose_spec.2.2.1
      exact ⟨r.1.1, r.1.2.2.2, r5.1, j, by omega, j2, r5.2.2⟩
    have hpl : ∀ y e, y ∈ rs → e ∈ tsR τ0 y.1 y.2 → PO p w (nK τ) F (srP τ f) ps (ps.idxOf e.1) e.1 (plo w F ps e.1) := fun y e hy he => by
      obtain ⟨-, -, -, -, r5, -⟩ := hRW y hy
      rw [x_tsR hkx] at r5
      obtain ⟨k, hk⟩ := List.getElem?_of_mem he
      exact (hPL.at (r5 k e hk).1).2.2.2
    have h14 : tg w r' = 20 ∨ tg w r' = 21 → tg w (fR w 108 r') = 14 := fun q => by
      rcases hcase with z | ⟨y, y1, -, -, y2, -⟩ | ⟨y, e, -, -, -, z, -⟩
      · omega
      · rw [y2]; exact (hrow y y1).1
      · omega
    refine ⟨fun q => sC_nwhat (d := d + 249) d2 ?_, fun q => sC_nrule (d := d + 249) d2 h14 ?_, fun q => ⟨nd_hF d2 (Or.inr rfl), by rw [k1]; decide, ?_⟩, fun q => sC_nplace (d := d + 249) d2 ?_, fun n0 n1 n2 n3 => sC_nplace (d := d + 249) d2 ?_⟩
    · refine topT _ ⟨fun _ => ?_, fun y => by omega, fun y => by omega, fun y => by omega, fun y => by omega⟩
      have : tA τ 80 (300 * f + i : Nat) = (tg w r' : Nat) - 19 := by
        rcases hcase with z | ⟨y, -, -, z | z, -⟩ | ⟨y, e, -, -, -, z, -⟩ <;> omega
      rw [this]; exact h1 _
    · rcases hcase with z | ⟨y, y1, -, z, y2, y3, -⟩ | ⟨y, e, -, -, -, z, -, z2, -⟩
      · rw [if_neg (by omega)]
        refine br1 rfl (bC_X0_node_95 (topT _ ⟨fun y => by omega, fun _ => ?_, fun y => by omega, fun y => by omega, fun y => by omega⟩))
        rw [z.2.2.1, if_pos rfl]; exact h1 _
      · obtain ⟨r1, r2, r3, j, j0, j1, j2⟩ := hrow y y1
        have et : tg w r' = 20 ∨ tg w r' = 21 := by omega
        have nz : ru y.1 ≠ 0 := by
          intro y0
          obtain ⟨_, _, rr⟩ := hrus j (by
            have := hy
            obtain ⟨j', j1', j2', -⟩ := (rowsK_mem _).mp (by rw [err]; exact y1 : y ∈ rowsK τ f 0 (rk τ f))
            omega)
          have := rr.ob56.2.1
          rw [← j1, y0] at this
          omega
        rw [if_pos et, y2, r2]
        refine br0 nz (sC_nrule (d := d + 249) d2 h14 ?_)
        rw [if_pos et, y2, r2]
        refine ⟨by rw [r3]; decide, bC_X0_node_95 (topT _ ⟨fun y => by omega, fun _ => ?_, fun y => by omega, fun y => by omega, fun y => by omega⟩)⟩
        rw [y3, if_neg (by omega), j2, show (16 : Int) = ((16 : Nat) : Int) from rfl, i_rem_n (by omega) (by omega), j1, show (16 * f + j) % 16 = j by omega]
        exact h1 _
      · rw [if_neg (by omega)]
        refine br1 rfl (bC_X0_node_95 (topT _ ⟨fun y => by omega, fun _ => ?_, fun y => by omega, fun y => by omega, fun y => by omega⟩))
        rw [z2, if_pos rfl]; exact h1 _
    · refine topT _ ⟨fun y => by omega, fun y => by omega, fun _ => ?_, fun y => by omega, fun y => by omega⟩
      rw [b84, k2]; exact h1 _
    · have noP : tg w r' < 22 → tA τ 83 (300 * f + i : Nat) = -4 → (if 22 ≤ tg w r' then fR w 109 r' else 0) = 0 := fun z _ => if_neg (by omega)
      rcases hcase with z | ⟨y, y1, -, z, y2, y3, y4⟩ | ⟨y, e, ey, ee, -, z, z1, z2, z4⟩
      · rw [noP (by omega) z.2.2.2.1]
        refine br1 rfl (bC_X0_node_124 (topT _ ⟨fun y => by omega, fun y => by omega, fun y => by omega, fun _ => bT_node_138 (fun I hI => hI _ _ _ ⟨fun _ => bT_node_155 ⟨by omega, fa ?_⟩, fun y => absurd ?_ y⟩), fun y => by omega⟩))
        · rw [z.2.2.2.1, if_pos rfl]; exact h1 _
        · rw [z.2.2.2.1]; exact shr_no
      · rw [noP (by omega) y4]
        refine br1 rfl (bC_X0_node_124 (topT _ ⟨fun y => by omega, fun y => by omega, fun y => by omega, fun _ => bT_node_138 (fun I hI => hI _ _ _ ⟨fun _ => bT_node_155 ⟨by omega, fa ?_⟩, fun y => absurd ?_ y⟩), fun y => by omega⟩))
        · rw [y4, if_pos rfl]; exact h1 _
        · rw [y4]; exact shr_no
      · obtain ⟨p1, p2, p3, k, j, π', pe, -, o1, o2, -⟩ := hpl y e ey ee
        have jk : j < 7 ∧ okP π' ∧ π'.length ≤ 6 := by
          obtain ⟨-, -, -, -, u1, u2, -⟩ := hCX.t ey ee
          rw [pe] at u1 u2
          exact ⟨u1 (k, j) (List.mem_cons_self ..), fun x hx => u1 x (List.mem_cons_of_mem _ hx), by simp only [List.length_cons] at u2; omega⟩
        have bc := cod_7 jk.2.1 (by omega)
        have e83 : tA τ 83 (300 * f + i : Nat) = ((8 * cod π' + j + 1 : Nat) : Int) := by rw [z4, pe]; rfl
        rw [if_pos z.1, z1]
        refine br0 (by omega) (sC_nplace (d := d + 249) d2 ?_)
        rw [if_pos z.1, z1]
        refine ⟨by rw [p1]; decide, bC_X0_node_124 (topT _ ⟨fun y => by omega, fun y => by omega, fun y => by omega, fun _ => bT_node_138 (fun I hI => ?_), fun y => by omega⟩)⟩
        rw [e83, shr8 _ _ jk.1 (by omega)]
        refine sT_plen jk.2.1 (by omega) 0 I _ hI (by omega) (bT_node_155 ⟨by omega, fa ?_⟩)
        rw [e83, if_neg (by omega), o2, Nat.zero_add]
        exact h1 _
    · have e34 : x3 = 4 := by omega
      rcases hcase with z | ⟨y, y1, -, z, y2, y3, y4⟩ | ⟨y, e, ey, ee, -, z, z1, z2, z4⟩
      · rw [if_neg (by omega)]
        refine br1 rfl (bC_X0_node_146 (topT _ ⟨fun y => by omega, fun y => by omega, fun y => by omega, fun y => by omega, fun _ => ?_⟩))
        rw [z.2.2.2.1, if_pos rfl]; exact h1 _
      · rw [if_neg (by omega)]
        refine br1 rfl (bC_X0_node_146 (topT _ ⟨fun y => by omega, fun y => by omega, fun y => by omega, fun y => by omega, fun _ => ?_⟩))
        rw [y4, if_pos rfl]; exact h1 _
      · obtain ⟨p1, p2, p3, k, j, π', pe, -, o1, o2, -⟩ := hpl y e ey ee
        have jk : j < 7 ∧ okP π' ∧ π'.length ≤ 6 := by
          obtain ⟨-, -, -, -, u1, u2, -⟩ := hCX.t ey ee
          rw [pe] at u1 u2
          exact ⟨u1 (k, j) (List.mem_cons_self ..), fun x hx => u1 x (List.mem_cons_of_mem _ hx), by simp only [List.length_cons] at u2; omega⟩
        have bc := cod_7 jk.2.1 (by omega)
        have e83 : tA τ 83 (300 * f + i : Nat) = ((8 * cod π' + j + 1 : Nat) : Int) := by rw [z4, pe]; rfl
        rw [if_pos z.1, z1]
        refine br0 (by omega) (sC_nplace (d := d + 249) d2 ?_)
        rw [if_pos z.1, z1]
        refine ⟨by rw [p1]; decide, bC_X0_node_146 (topT _ ⟨fun y => by omega, fun y => by omega, fun y => by omega, fun y => by omega, fun _ => ?_⟩)⟩
        rw [e83, if_neg (by omega), i_and7, o1, w32_s (by omega) (by omega), show (((8 * cod π' + j + 1 : Nat) : Int) % 8 - 1) = j by omega]
        exact h1 _
  · rw [ff_in_0 z3]
    exact br1 rfl (no (Or.inr (Or.inr (ff_in_0 z3))))
end ZApind
