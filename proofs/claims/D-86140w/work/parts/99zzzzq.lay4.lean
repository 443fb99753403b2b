/-! the component's lay, whole -/
section ZLay4
variable {p b e d : Nat} {w : CW} {τ : TW}
theorem rwsR_pre (R : Nat) {a n : Nat} (h : a ≤ n) : ∃ rest, rwsR R n = rwsR R a ++ rest := by
  obtain ⟨k, rfl⟩ : ∃ k, n = a + k := ⟨n - a, by omega⟩
  induction k with
  | zero => exact ⟨[], (List.append_nil _).symm⟩
  | succ k ih =>
    obtain ⟨rest, hr⟩ := ih (by omega)
    exact ⟨rest ++ [(R, a + k)], by rw [show a + (k + 1) = (a + k) + 1 by omega, rwsR_succ, hr, List.append_assoc]⟩
theorem rowsK_pre (f : Nat) (bare : Int) {k n : Nat} (h : k ≤ n) : ∃ rest, rowsK τ f bare n = rowsK τ f bare k ++ rest := by
  obtain ⟨j, rfl⟩ : ∃ j, n = k + j := ⟨n - k, by omega⟩
  induction j with
  | zero => exact ⟨[], (List.append_nil _).symm⟩
  | succ j ih =>
    obtain ⟨rest, hr⟩ := ih (by omega)
    exact ⟨rest ++ _, by
      show rowsK τ f bare (k + j) ++ _ = _
      rw [hr, List.append_assoc]⟩
theorem off_pre {rs rest : List (Nat × Nat)} : off τ rs rs.length ≤ off τ (rs ++ rest) (rs ++ rest).length := by
  unfold off
  rw [List.take_length, List.take_length, List.map_append, List.sum_append]
  omega
theorem rowsK_at (f : Nat) {k n : Nat} (h : k < n) {way : Nat} (hw : way ≤ (tA τ 49 (16 * f + k : Nat)).toNat) : ∃ rest, rowsK τ f 0 n = (rowsK τ f 0 k ++ rwsR (16 * f + k) way) ++ rest := by
  obtain ⟨r1, h1⟩ := rowsK_pre (τ := τ) f 0 (show k + 1 ≤ n by omega)
  obtain ⟨r2, h2⟩ := rwsR_pre (16 * f + k) hw
  have e : rowsK τ f 0 (k + 1) = rowsK τ f 0 k ++ rwsR (16 * f + k) (tA τ 49 (16 * f + k : Nat)).toNat := by
    show rowsK τ f 0 k ++ (if (0 : Int) ≠ 0 ∧ _ then [] else _) = _
    rw [if_neg (fun y => y.1 rfl)]
  exact ⟨r2 ++ r1, by rw [h1, e, h2]; simp [List.append_assoc]⟩
/-- how many rows the first rules make -/
theorem sC_prod {wL : CW} {F R x m : Nat} (hBL : BS p (cz wL) wL τ F) (hU : RUL p wL τ R x m) (f : Fr [F, fR wL 50 F] wL w) (pf : PF [] p wL w) {Q : ZRes → CW → Prop} (hQ : Q (.inl (some (ai (tA τ 49 R)))) w) : wpC p (d + 22) 43 [ar (fR wL 58 x)] w Q := by
  obtain ⟨u1, u2, c, N, Di, Sn, u3, u4, u5, u6⟩ := hU
  obtain ⟨q1, q2, q3, q4, ⟨q5, q6⟩, q7⟩ := u5
  obtain ⟨hK, ekd⟩ := hBL.kr f pf
  have oA := hBL.ob f (r := fR wL 58 x) (by rw [u2.1]; decide) (by rw [u2.1]; decide) (by rw [u2.1]; decide)
  have hmemc : ∀ j, j < m → c j ∈ lsN c 0 m := fun j hj => List.mem_of_getElem? (by have := lsN_at (c := c) (i := 0) hj; rw [Nat.zero_add] at this; exact this)
  rw [u3] at q4
  refine sC_product (d := d + 21) (τ := τ) (c := c) (m := m) ⟨by rw [ob.etg oA]; exact u2.1, by rw [ob.eln oA]; exact u2.2.1⟩ (by omega) (fun j hj => (q4 _ (hmemc j hj)).1.2.2.2.1) (fun j hj => ?_) ?_
  · rw [ob.eaR oA]
    exact PRel.way (d := d) (fun k hk => by
      have kl := hK.2.2.2.2.1 k hk
      exact kl.2.2.2.2.2.2.2.1) 7 _ _ _ _ (hBL.prel f pf (u6 j hj).1)
  · rw [← u4, show min (41 : Int) (tA τ 49 R) = tA τ 49 R by omega]
    exact hQ
theorem sC_lay {wL : CW} {f F n m : Nat} (hBL : BS p (cz wL) wL τ F) (hPL0 : PL p wL (nK τ) F (srP τ f) []) (h48 : fI wL 48 F = n) (hn : n ≤ 16) (hU : ∀ i, i < n → RUL p wL τ (16 * f + i) (aR wL (fR wL 47 F) (i : Nat)) m) (h47 : tg wL (fR wL 47 F) = 117 ∧ ln wL (fR wL 47 F) = 16) (h46 : fI wL 46 F = m) (hs : IArr p wL (fR wL 45 F) 3 ∧ ∀ j : Nat, j < m → aI wL (fR wL 45 F) j = tA τ 44 (3 * f + j : Nat)) (hAL : (allF τ f n).length ≤ 900) (hnp : np τ ≤ 900) (htot : (rowsK τ f 0 n).length ≤ 40) {lim : Int} (hm : lim ≤ mu wL ∧ lim ≤ 5 * mz wL) (hlim : zm wL + 12 * off τ (rowsK τ f 0 n) (rowsK τ f 0 n).length + 36000 ≤ lim) {Q : ZRes → CW → Prop}
    (hQ : ∀ w' ps A, LSt p wL w' τ f F ps A (rowsK τ f 0 n).length (rowsK τ f 0 n) → (∀ ρ, ρ ∈ ps → ρ ∈ allF τ f n) → Q (.inl none) w') : wpC p (d + 40) 86 [ar F] wL Q := by
  have hF' := hBL.F (Fr.refl _ _)
  have W := hBL.1
  have lF := W.le (r := F) (by rw [hF'.1]; decide)
  obtain ⟨l1, l2, l3⟩ := hBL.le
  have e49 : ∀ i, i < n → tA τ 49 (16 * f + i : Nat) = ((tA τ 49 (16 * f + i : Nat)).toNat : Int) ∧ (tA τ 49 (16 * f + i : Nat)).toNat ≤ 40 := fun i hi => by
    obtain ⟨-, -, c, N, Di, Sn, -, -, u5, -⟩ := hU i hi
    obtain ⟨-, -, -, -, ⟨q5, q6⟩, -⟩ := u5
    omega
  have lenK : ∀ k, k < n → (rowsK τ f 0 (k + 1)).length = (rowsK τ f 0 k).length + (tA τ 49 (16 * f + k : Nat)).toNat := fun k _ => by
    show (rowsK τ f 0 k ++ (if (0 : Int) ≠ 0 ∧ _ then [] else _)).length = _
    rw [if_neg (fun y => y.1 rfl), List.length_append, rwsR_len]
  refine wC_X4_lay (Nat.zero_le _) (bC_X4_lay_0 ⟨by rw [hF'.1]; decide, hF'.1, wC_X4_count (Nat.zero_le _) (bC_X4_count_0 (bC_X4_count_4 ?_))⟩)
  intro I hI
  have cnt : ∀ t k, k + t = n → I ((rowsK τ f 0 k).length : Nat) (k : Nat) wL := by
    intro t
    induction t with
    | zero =>
      intro k hk
      have hk : k = n := by omega
      rw [hk]
      refine hI _ _ _ (br1 (by rw [h48]; exact Int.le_refl _) (bC_X4_count_30 (call := wpC p (d + 38)) ?_))
      obtain ⟨tot, htt⟩ : ∃ tot, tot = (rowsK τ f 0 n).length := ⟨_, rfl⟩
      rw [← htt] at htot hQ ⊢
      have hl2 : zm wL + 36000 ≤ lim := by omega
      have hl3 := hl2
      unfold zm at hl3
      refine ⟨⟨by omega, by omega, by rw [Int.toNat_natCast]; omega⟩, ?_⟩
      rw [Int.toNat_natCast]
      refine fa ⟨?_, fa ?_⟩
      · show hP 49 (if F = cz wL + 1 then 116 else tg wL F) = true
        rw [if_neg (by omega), hF'.1]; decide
      obtain ⟨w1, hw1⟩ : ∃ w1, w1 = pR (nA wL 116 tot) 49 F (cz wL + 1) := ⟨_, rfl⟩
      rw [← hw1]
      have F1 : Fr [F, fR wL 50 F] wL w1 := by rw [hw1]; exact ((Fr.refl _ _).snA).spR (Or.inl (by simp))
      have P1 : PF [] p wL w1 := by rw [hw1]; exact ((PF.refl _ _ _).snA).spR (Or.inr (by omega))
      have W1 : WF p w1 := by rw [hw1]; exact (W.snA 116 tot).spR _ _ _
      have r1 : ∀ g, g ≠ 49 → fR w1 g F = fR wL g F := fun g hg => by rw [hw1]; simp [fR_pR, fR_nA, hg]
      have i1 : ∀ g, fI w1 g F = fI wL g F := fun g => by rw [hw1]; rfl
      have keep := hPL0.keep (w' := w1) (i1 51) (r1 50 (by decide)) (by
        have fn : Fr [F] wL w1 := by rw [hw1]; exact ((Fr.refl _ _).snA).spR (Or.inl (by simp))
        refine fn.2.2.2.2 _ l2 (fun y => ?_)
        have y := List.mem_singleton.mp y
        have t5 := hBL.2.2.2.2.1
        rw [y, hF'.1] at t5
        cases t5) (fun r hr => F1.2.2.2.2 r (W.le (by rw [hr]; decide)) (fun y => by
        rcases List.mem_cons.mp y with y | y
        · rw [y, hF'.1] at hr; cases hr
        · rw [List.mem_singleton.mp y, hBL.2.2.2.2.1] at hr; cases hr)) (hBL.kr F1 P1).2
      have L0 : LSt p wL w1 τ f F [] (cz wL + 1) tot [] := by
        refine ⟨⟨F1, P1, W1⟩, keep.1, ⟨fun g _ => i1 g, r1, by rw [hw1]; simp [fR_pR]⟩, ⟨by rw [hw1]; exact if_pos rfl, by rw [hw1]; exact if_pos rfl, by omega, by rw [hw1]; exact Nat.le_refl _⟩, fun i x hx => by simp at hx, ?_⟩
        have z1 : cz w1 = cz wL + 1 := by rw [hw1]; rfl
        have z2 : cu w1 = cu wL + tot := by rw [hw1]; rfl
        unfold zm
        rw [z1, z2]
        show ((cu wL + tot : Nat) : Int) + 5 * ((cz wL + 1 : Nat) : Int) ≤ cu wL + 5 * cz wL + 5 + tot + 49 * 0 + 12 * ((off τ [] 0 : Nat) : Int) + 11 * 0
        omega
      refine bC_X4_lay_19 (call := wpC p (d + 39)) ?_
      intro I19 hI19
      have outer : ∀ t k, k + t = n → ∀ w ps, LSt p wL w τ f F ps (cz wL + 1) tot (rowsK τ f 0 k) → (∀ ρ, ρ ∈ ps → ρ ∈ allF τ f n) → I19 ((rowsK τ f 0 k).length : Nat) (k : Nat) w := by
        intro t
        induction t with
        | zero =>
          intro k hk w ps hL hps
          have hk : k = n := by omega
          subst hk
          have hF2 := hBL.F hL.1.1
          refine hI19 _ _ _ ⟨by rw [hF2.1]; decide, br1 (by rw [hL.2.2.1.1 48 (by decide), h48]; exact Int.le_refl _) (bC_X4_lay_166 (call := wpC p (d + 39)) (hQ w ps _ hL hps))⟩
        | succ t ih =>
          intro k hk w ps hL hps
          have hkn : k < n := by omega
          have hF2 := hBL.F hL.1.1
          have e47 : fR w 47 F = fR wL 47 F := hL.2.2.1.2.1 47 (by decide)
          have o47 := hBL.ob hL.1.1 (r := fR wL 47 F) (by rw [h47.1]; decide) (by rw [h47.1]; decide) (by rw [h47.1]; decide)
          obtain ⟨x, hx⟩ : ∃ x, x = aR wL (fR wL 47 F) (k : Nat) := ⟨_, rfl⟩
          have hUk := hU k hkn
          rw [← hx] at hUk
          have ox := hBL.ob hL.1.1 (r := x) (by rw [hUk.1]; decide) (by rw [hUk.1]; decide) (by rw [hUk.1]; decide)
          have ex : aR w (fR wL 47 F) (k : Int) = x := by rw [ob.eaR o47, hx]
          refine hI19 _ _ _ ⟨by rw [hF2.1]; decide, br0 (by rw [hL.2.2.1.1 48 (by decide), h48]; omega) ⟨by rw [hF2.1]; decide, ⟨by rw [e47, ob.etg o47, h47.1]; decide, by omega, by rw [e47, ob.eln o47, h47.2]; omega⟩, ?_⟩⟩
          rw [e47, ex]
          refine ⟨by rw [ob.etg ox, hUk.1]; decide, ?_⟩
          rw [ob.efR ox]
          refine fa (sC_prod (d := d + 17) hBL hUk hL.1.1 hL.1.2.1 (bC_X4_lay_46 (call := wpC p (d + 39)) ?_))
          intro I46 hI46
          have l49 := e49 k hkn
          obtain ⟨nw, hnw⟩ : ∃ nw, nw = (tA τ 49 (16 * f + k : Nat)).toNat := ⟨_, rfl⟩
          have lk := lenK k hkn
          rw [← hnw] at l49 lk
          have inner : ∀ t2 way, way + t2 = nw → ∀ w ps, LSt p wL w τ f F ps (cz wL + 1) tot (rowsK τ f 0 k ++ rwsR (16 * f + k) way) → (∀ ρ, ρ ∈ ps → ρ ∈ allF τ f n) → I46 (((rowsK τ f 0 k).length + way : Nat) : Int) (way : Nat) w := by
            intro t2
            induction t2 with
            | zero =>
              intro way hway w ps hL hps
              have hway : way = nw := by omega
              subst hway
              refine hI46 _ _ _ (br1 (by omega) (bC_X4_lay_160 (call := wpC p (d + 39)) (fa ?_)))
              rw [w32_s (by omega) (by omega)]
              have := ih (k + 1) (by omega) w ps (by
                have e : rowsK τ f 0 (k + 1) = rowsK τ f 0 k ++ rwsR (16 * f + k) way := by
                  show rowsK τ f 0 k ++ (if (0 : Int) ≠ 0 ∧ _ then [] else _) = _
                  rw [if_neg (fun y => y.1 rfl), hnw]
                rw [e]; exact hL) hps
              rw [lk] at this
              exact this
            | succ t2 ih2 =>
              intro way hway w ps hL hps
              obtain ⟨rest, hrest⟩ := rowsK_at (τ := τ) f hkn (way := way) (by omega)
              have offb := off_pre (τ := τ) (rs := rowsK τ f 0 k ++ rwsR (16 * f + k) way) (rest := rest)
              rw [← hrest] at offb
              have lenb : (rowsK τ f 0 k ++ rwsR (16 * f + k) way).length = (rowsK τ f 0 k).length + way := by rw [List.length_append, rwsR_len]
              have lenn := rowsK_mono (τ := τ) f 0 (show k + 1 ≤ n by omega)
              rw [lk, ← htt] at lenn
              have psl := hL.2.1.2.2.2.1
              have hmem := hL.2.2.2.2.2
              have hz : zm w + 22100 ≤ lim := by
                rw [lenb] at hmem
                rw [lenb] at offb
                omega
              have one := lay_one (d := d + 38) (ALL := allF τ f n) (Q := fun w => Q (.inl none) w) (I19 := I19) (I46 := I46) hBL hUk hx.symm ⟨h47.1, h47.2, by omega⟩ h46 hs hAL (fun ρ hρ => by
                unfold allF
                exact List.mem_flatten.mpr ⟨_, List.mem_map.mpr ⟨k, List.mem_range.mpr hkn, rfl⟩, hρ⟩) hps hnp hL (by rw [lenb]; omega) (by omega) hm hz (way := way) (by omega) (by omega) rfl (fun w' ps' hL' hps' => by
                have := ih2 (way + 1) (by omega) w' ps' (by rw [rwsR_succ, ← List.append_assoc]; exact hL') hps'
                rw [lenb]
                exact this)
              rw [lenb] at one
              exact hI46 _ _ _ (br0 (by omega) one)
          have := inner nw 0 (by omega) w ps (by
            have e0 : rwsR (16 * f + k) 0 = [] := rfl
            rw [e0, List.append_nil]; exact hL) hps
          exact this
      exact outer n 0 (by omega) w1 [] L0 (fun ρ hρ => by cases hρ)
    | succ t ih =>
      intro k hk
      have hkn : k < n := by omega
      have hUk := hU k hkn
      have l49 := e49 k hkn
      have lk := lenK k hkn
      have lenn := rowsK_mono (τ := τ) f 0 (show k + 1 ≤ n by omega)
      refine hI _ _ _ (br0 (by rw [h48]; omega) ⟨by rw [hF'.1]; decide, ⟨by rw [h47.1]; decide, by omega, by rw [h47.2]; omega⟩, by rw [hUk.1]; decide, ?_⟩)
      refine sC_prod (d := d + 16) hBL hUk (Fr.refl _ _) (PF.refl _ _ _) (fa (fa ?_))
      rw [w32_s (a := (k : Int) + 1) (by omega) (by omega), w32_s (by omega) (by omega)]
      have := ih (k + 1) (by omega)
      rw [lk] at this
      rw [show (((rowsK τ f 0 k).length : Nat) : Int) + tA τ 49 (16 * f + k : Nat) = (((rowsK τ f 0 k).length + (tA τ 49 (16 * f + k : Nat)).toNat : Nat) : Int) by omega]
      exact this
  exact cnt n 0 (by omega)
end ZLay4
