/-! a sum of a guard, both: whole -/
section ZSum2
variable {p d e : Nat} {w : CW} {τ : TW}
theorem pr_term2 {g k t : Nat} {ik it : Int} (eik : ik = (k : Nat)) (eit : it = (t : Nat)) (h : RB p w τ) (hN : NmR p w τ) (hG : GdA p w g) (hk : k < 4) (ht : t < 768) (hi : aI w (fR w 78 g) k = -1) (hR : Rm 500 w τ) :
    OUT p [fR w 78 g, fR w 77 g] [9, 10, 11, 12, 13, 14] [2, 3, 4, 5, 6, 7, 8, 50, 51] (-5700) 60 (fun (_ : Unit) (_ : Unit) w' τ' => (∀ x : Nat, x ≠ t → tA τ' 50 x = tA τ 50 x ∧ tA τ' 51 x = tA τ 51 x) ∧ (∀ i : Nat, i ≠ k → aI w' (fR w 78 g) i = aI w (fR w 78 g) i ∧ aI w' (fR w 77 g) i = aI w (fR w 77 g) i) ∧ tA τ' 50 t ≠ 0 ∧ ((tA τ' 50 t = 2 ∧ ∃ n : Nat, (n < 8 ∧ wnB τ n) ∧ tA τ' 51 t = n ∧ aI w' (fR w 78 g) k = n) ∨ (tA τ' 50 t = 1 ∧ aI w' (fR w 78 g) k = -1 ∧ aI w' (fR w 77 g) k = tA τ' 51 t))) (fun Q X => wpC p (d + 15) 36 [ar p, ar g, ai ik] w (zqV (Q ()) X)) (fun Q => wpT (e + 7) 40 [ai it] τ (zqV (Q ()) zno)) w τ := by
  subst eik
  subst eit
  refine pr_term' h hN hG hk ht ⟨by simp, by simp⟩ (fun y => ?_) hi (fun f hf => hf) (fun f hf => hf) hR
  have h1 := hG.1
  simp only [List.mem_cons, List.not_mem_nil, or_false] at y
  rcases y with y | y
  · have := hG.2.2.1.1; rw [← y, h1] at this; cases this
  · have := hG.2.2.2.1.1; rw [← y, h1] at this; cases this
theorem pr_sum {g k t s : Nat} {it is ik : Int} (eik : ik = (k : Nat)) (eit : it = (t : Nat)) (eis : is = (s : Nat)) (h : RB p w τ) (hN : NmR p w τ) (hG : GdA p w g) (hk : k < 2) (ht : t + 1 < 768) (hs : s < 384) (hi : aI w (fR w 78 g) (2 * k : Nat) = -1 ∧ aI w (fR w 78 g) (2 * k + 1 : Nat) = -1 ∧ aI w (fR w 76 g) k = 0) (hR : Rm 900 w τ) :
    OUT p [fR w 78 g, fR w 77 g, fR w 76 g] [9, 10, 11, 12, 13, 14] [2, 3, 4, 5, 6, 7, 8, 50, 51, 52] (-5600) 100 (fun (_ : Unit) (_ : Unit) w' τ' => TmR (wnB τ) w' τ' g (2 * k) t ∧ tA τ' 50 t ≠ 0 ∧ TmR (wnB τ) w' τ' g (2 * k + 1) (t + 1) ∧ aI w' (fR w 76 g) k = tA τ' 52 s ∧ (tA τ' 52 s = 0 ∨ (isOp (tA τ' 52 s) ∧ tA τ' 50 (t + 1 : Nat) ≠ 0)) ∧ (∀ x : Nat, x ≠ t → x ≠ t + 1 → tA τ' 50 x = tA τ 50 x ∧ tA τ' 51 x = tA τ 51 x) ∧ (∀ x : Nat, x ≠ s → tA τ' 52 x = tA τ 52 x) ∧ (∀ i : Nat, i ≠ 2 * k → i ≠ 2 * k + 1 → aI w' (fR w 78 g) i = aI w (fR w 78 g) i ∧ aI w' (fR w 77 g) i = aI w (fR w 77 g) i) ∧ (∀ i : Nat, i ≠ k → aI w' (fR w 76 g) i = aI w (fR w 76 g) i)) (fun Q X => wpC p (d + 16) 35 [ar p, ar g, ai ik] w (zqV (Q ()) X)) (fun Q => wpT (e + 8) 39 [ai it, ai is] τ (zqV (Q ()) zno)) w τ := by
  subst eik
  subst eit
  subst eis
  have e2k : w32 (2 * (k : Int)) = ((2 * k : Nat) : Int) := by rw [w32_s (by omega) (by omega)]; omega
  have e2k1 : w32 (w32 (2 * (k : Int)) + 1) = ((2 * k + 1 : Nat) : Int) := by rw [e2k]; exact w32_k (by omega)
  have ew : w32 ((t : Int) + 1) = ((t + 1 : Nat) : Int) := w32_k (by omega)
  refine OUTb.go (OUTb.bVV hR (pr_term2 (k := 2 * k) (t := t) (ik := w32 (2 * (k : Int))) (it := t) e2k rfl h hN hG (by omega) (by omega) hi.1 (hR.le (by decide))) (fun Q X h => wC_X0_sum (Nat.zero_le _) (bC_X0_sum_0 h)) (fun Q h => wT_readSum (by omega) (bT_readSum_0 h)) (fun _ _ u σ rb n1 c1 hR1 => ?_) (fun h pl σ D F => ?_) (hTT := fun r hr => Or.inl (by simp at hr ⊢; omega)))
  · obtain ⟨n2, n3, n4, n5⟩ := n1
    have hgT : g ∉ [fR w 78 g, fR w 77 g] := by
      intro y
      have h1 := hG.1
      simp only [List.mem_cons, List.not_mem_nil, or_false] at y
      rcases y with y | y
      · have := hG.2.2.1.1; rw [← y, h1] at this; cases this
      · have := hG.2.2.2.1.1; rw [← y, h1] at this; cases this
    obtain ⟨G1, f78, f77, f76⟩ := hG.cf h.1 c1 hgT
    have a76 : ∀ i, aI u (fR w 76 g) i = aI w (fR w 76 g) i := CF.arr c1 h.1 hG.2.2.2.2.1 (by simp; exact ⟨hG.2.2.2.2.2.2.1, hG.2.2.2.2.2.2.2⟩)
    refine OUTb.tw (S1 := [50]) hR1 rb (sA σ 50 (w32 (t + 1)) 0) ((FT.refl _ _).ssA (by decide)) (fun Q h => ⟨by omega, h⟩) (fun σ1 e1 rb1 F1 hR2 => ?_)
    refine OUTb.tw (S1 := [52]) hR2 rb1 (sA σ1 52 s 0) ((FT.refl _ _).ssA (by decide)) (fun Q h => ⟨by omega, h⟩) (fun σ2 e2 rb2 F2 hR3 => ?_)
    have x50 : ∀ x : Nat, tA σ2 50 x = if x = t + 1 then 0 else tA σ 50 x := by
      intro x
      rw [(F2 50 (by decide)).2, e1, tA_sA, ew]
      by_cases z : x = t + 1
      · rw [if_pos ⟨rfl, by omega⟩, if_pos z]
      · rw [if_neg (by omega), if_neg z]
    have x52 : ∀ x : Nat, tA σ2 52 x = if x = s then 0 else tA σ 52 x := by
      intro x
      rw [e2, tA_sA, (F1 52 (by decide)).2]
      by_cases z : x = s
      · rw [if_pos ⟨rfl, by omega⟩, if_pos z]
      · rw [if_neg (by omega), if_neg z]
    have x51 : ∀ x : Int, tA σ2 51 x = tA σ 51 x := fun x => ((F2 51 (by decide)).2 x).trans ((F1 51 (by decide)).2 x)
    have y52 : ∀ x : Nat, tA σ 52 x = tA τ 52 x := fun x => (c1.2.2.2.1 52 (by decide)).2 x
    by_cases z : tI σ2 3 = 5 ∧ isOp (tI σ2 4)
    · refine OUTb.tt (fun Q h => br1 ⟨rb2.f0, (isOp_ff σ2).mpr z⟩ (bT_readSum_73 ⟨by omega, h⟩)) ?_
      obtain ⟨o1, o2, o3, o4⟩ := rb2.op z.1
      have wv : w32 (tI σ2 4) = tI σ2 4 := by
        have := z.2
        unfold isOp at this
        exact w32_s (by omega) (by omega)
      refine OUTb.cc (fun Q X h => br1 (rb2.ty.trans z.1) ⟨(rb2.2.1 14 _ rfl).1.1, sC_opIdx rb2 z.1 (fun v hv => br0 (fun y => hv.mp y z.2) ⟨by rw [G1.1]; decide, ⟨G1.2.2.2.2.1.1, by omega, by rw [G1.2.2.2.2.1.2.1]; omega⟩, h⟩)⟩) ?_
      refine OUTb.wo (r := fR u 76 g) hR3 rb2 (qI u (fR u 76 g) k (fI u 14 p)) ((Fr.refl _ _).sqI (Or.inl (by simp))) ((PF.refl _ _ _).sqI) (rb2.1.sqI _ _ _) ⟨rfl, rfl⟩ (fun Q X h => h) ⟨by have := G1.2.2.2.2.1.2.2; omega, by rw [G1.2.2.2.2.1.1]; decide, by rw [G1.2.2.2.2.1.1]; decide⟩ (Or.inl (by rw [f76]; simp)) (fun u2 eu2 rb3 c3 hR4 => ?_)
      refine OUTb.tw (S1 := [52]) hR4 rb3 (sA σ2 52 s (w32 (tI σ2 4))) ((FT.refl _ _).ssA (by decide)) (fun Q h => h) (fun σ3 e3 rb4 F3 hR5 => ?_)
      refine OUTb.bVV hR5 (OUT.next (d := d + 3) (e := e + 3) (T := []) (S := [9, 10, 11, 12, 13, 14]) (S' := [2, 3, 4, 5, 6]) rb4 (by rw [(F3 3 (by decide)).1]; have := z.1; omega) (fun f hf => hf) (fun f hf => hf) (hR5.le (by decide))) (fun Q X h => h) (fun Q h => h) (fun _ _ u4 σ4 rb5 _ c5 hR6 => ?_) (fun h pl σ D F => ?_)
      · have hg3 : g ∉ [fR u 76 g] := by
          intro y
          have := G1.2.2.2.2.1.1
          rw [← List.mem_singleton.mp y, G1.1] at this
          cases this
        obtain ⟨G3, g78, g77, g76⟩ := G1.cf rb2.1 c3 hg3
        obtain ⟨G4, q78, q77, q76⟩ := G3.cf rb3.1 c5 (by simp)
        have N1 := hN.on h.1 c1 (fun r hr => by
          simp only [List.mem_cons, List.not_mem_nil, or_false] at hr
          rcases hr with hr | hr
          · rw [hr]; exact hG.2.2.1.2.2
          · rw [hr]; exact hG.2.2.2.1.2.2)
        have N3 := ((N1.ft F1 (by decide)).1.ft F2 (by decide)).1
        have N4 := N3.on rb2.1 c3 (fun r hr => by rw [List.mem_singleton.mp hr]; exact G1.2.2.2.2.1.2.2)
        have N6 := (N4.ft F3 (by decide)).1.on rb4.1 c5
        have a78 : ∀ i, aI u4 (fR u4 78 g) i = aI u (fR w 78 g) i := by
          intro i
          rw [q78, CF.arr c5 rb4.1 G3.2.2.1 (by simp), g78, CF.arr c3 rb2.1 G1.2.2.1 (by simp; exact fun y => G1.2.2.2.2.2.2.1 y.symm), f78]
        have a77 : ∀ i, aI u4 (fR u4 77 g) i = aI u (fR w 77 g) i := by
          intro i
          rw [q77, CF.arr c5 rb4.1 G3.2.2.2.1 (by simp), g77, CF.arr c3 rb2.1 G1.2.2.2.1 (by simp; exact fun y => G1.2.2.2.2.2.2.2 y.symm), f77]
        have b76 : ∀ i : Nat, aI u4 (fR u4 76 g) i = if i = k then tI σ2 4 else aI u (fR w 76 g) i := by
          intro i
          rw [q76, CF.arr c5 rb4.1 G3.2.2.2.2.1 (by simp), g76, eu2, aI_qI, o4 z.2, f76]
          by_cases y : i = k
          · rw [if_pos ⟨rfl, by omega⟩, if_pos y]
          · rw [if_neg (by omega), if_neg y]
        have z52 : ∀ x : Nat, tA σ4 52 x = if x = s then tI σ2 4 else tA τ 52 x := by
          intro x
          rw [(c5.2.2.2.1 52 (by decide)).2, e3, tA_sA, wv]
          by_cases y : x = s
          · rw [if_pos ⟨rfl, by omega⟩, if_pos y]
          · rw [if_neg (by omega), if_neg y, x52, if_neg y, y52]
        have z50 : ∀ x : Nat, tA σ4 50 x = if x = t + 1 then 0 else tA σ 50 x := fun x => by rw [(c5.2.2.2.1 50 (by decide)).2, (F3 50 (by decide)).2, x50]
        have z51 : ∀ x : Int, tA σ4 51 x = tA σ 51 x := fun x => by rw [(c5.2.2.2.1 51 (by decide)).2, (F3 51 (by decide)).2, x51]
        refine OUTb.bVV hR6 (pr_term2 (d := d) (e := e) (k := 2 * k + 1) (t := t + 1) e2k1 ew rb5 N6 G4 (by omega) (by omega) (by rw [a78]; exact (n3 (2 * k + 1) (by omega)).1.trans hi.2.1) (hR6.le (by decide))) (fun Q X h => h) (fun Q h => h) (fun _ _ u6 σ6 rb7 n7 c7 hR7 => OUTb.ret (v := ()) (v' := ()) rb7 ?_ (fun Q X h => h) (fun Q h => h)) (fun h pl σ D F => DD.ret (b := ()) D (fun Q h => h)) (hTT := fun r hr => Or.inl (by rw [q78, g78, f78, q77, g77, f77] at hr; simp at hr ⊢; omega))
        obtain ⟨m2, m3, m4, m5⟩ := n7
        have hgT2 : g ∉ [fR u4 78 g, fR u4 77 g] := by
          rw [q78, g78, f78, q77, g77, f77]; exact hgT
        obtain ⟨G6, p78, p77, p76⟩ := G4.cf rb5.1 c7 hgT2
        have c76 : ∀ i, aI u6 (fR u4 76 g) i = aI u4 (fR u4 76 g) i := CF.arr c7 rb5.1 G4.2.2.2.2.1 (by simp; exact ⟨G4.2.2.2.2.2.2.1, G4.2.2.2.2.2.2.2⟩)
        have q76' : fR u4 76 g = fR w 76 g := by rw [q76, g76, f76]
        have q78' : fR u4 78 g = fR w 78 g := by rw [q78, g78, f78]
        have q77' : fR u4 77 g = fR w 77 g := by rw [q77, g77, f77]
        have w52 : ∀ x : Nat, tA σ6 52 x = if x = s then tI σ2 4 else tA τ 52 x := fun x => by rw [(c7.2.2.2.1 52 (by decide)).2, z52]
        have wq : ∀ n, wnB σ4 n → wnB τ n := by
          intro n hn
          have er : nR σ4 = nR τ := by
            unfold nR
            rw [(c5.2.2.2.1 27 (by decide)).1, (F3 27 (by decide)).1, (F2 27 (by decide)).1, (F1 27 (by decide)).1, (c1.2.2.2.1 27 (by decide)).1]
          unfold wnB at *
          rw [er, (c5.2.2.2.1 31 (by decide)).1, (F3 31 (by decide)).1, (F2 31 (by decide)).1, (F1 31 (by decide)).1, (c1.2.2.2.1 31 (by decide)).1, (c5.2.2.2.1 30 (by decide)).2, (F3 30 (by decide)).2, (F2 30 (by decide)).2, (F1 30 (by decide)).2, (c1.2.2.2.1 30 (by decide)).2] at hn
          exact hn
        refine ⟨?_, by rw [(m2 t (by omega)).1, z50, if_neg (by omega)]; exact n4, ?_, ?_, Or.inr ⟨by rw [w52, if_pos rfl]; exact z.2, m4⟩, fun x h1 h2 => ⟨?_, ?_⟩, fun x hx => ?_, fun i h1 h2 => ⟨?_, ?_⟩, fun i hi => ?_⟩
        · unfold TmR
          rw [(m2 t (by omega)).1, (m2 t (by omega)).2, z50, if_neg (by omega), z51, p78, p77, (m3 (2 * k) (by omega)).1, (m3 (2 * k) (by omega)).2, a78, a77]
          rcases n5 with n5 | n5
          · exact Or.inl n5
          · exact Or.inr (Or.inl n5)
        · unfold TmR
          rw [p78, p77]
          rcases m5 with m5 | m5
          · obtain ⟨m6, n, ⟨m7, m8⟩, m9⟩ := m5
            exact Or.inl ⟨m6, n, ⟨m7, wq n m8⟩, m9⟩
          · exact Or.inr (Or.inl m5)
        · rw [w52, if_pos rfl, ← q76', c76, b76, if_pos rfl]
        · rw [(m2 x h2).1, z50, if_neg h2]; exact (n2 x h1).1
        · rw [(m2 x h2).2, z51]; exact (n2 x h1).2
        · rw [w52, if_neg hx]
        · rw [← q78', (m3 i h2).1, a78, q78']; exact (n3 i h1).1
        · rw [← q77', (m3 i h2).2, a77, q77']; exact (n3 i h1).2
        · rw [← q76', c76, b76, if_neg hi, a76, q76']
      · have h7 : tI σ 7 = 0 := (F 7 (by decide)).1.trans rb4.f0
        exact DD.bV (Dd.term D h7 ew) (fun Q h => h) (fun u D _ => DD.ret (b := ()) D (fun Q h => h))
    · refine OUTb.tt (fun Q h => br0 (fun y => z ((isOp_ff σ2).mp y.2)) h) ?_
      refine OUTb.cc (cm' := fun Q X => Q () u) (fun Q X h => ?_) (OUTb.ret (v := ()) (v' := ()) rb2 ?_ (fun Q X h => h) (fun Q h => h))
      · by_cases y : tI σ2 3 = 5
        · exact br1 (rb2.ty.trans y) ⟨(rb2.2.1 14 _ rfl).1.1, sC_opIdx rb2 y (fun v hv => br1 (hv.mpr (fun q => z ⟨y, q⟩)) h)⟩
        · exact br0 (fun q => y (rb2.ty.symm.trans q)) h
      · refine ⟨?_, by rw [x50, if_neg (by omega)]; exact n4, Or.inr (Or.inr ⟨by rw [x50, if_pos rfl], ?_⟩), ?_, Or.inl (by rw [x52, if_pos rfl]), fun x h1 h2 => ⟨?_, ?_⟩, fun x hx => ?_, fun i h1 h2 => n3 i h1, fun i hi => a76 i⟩
        · unfold TmR
          rw [x50, if_neg (by omega), x51, f78, f77]
          rcases n5 with n5 | n5
          · exact Or.inl n5
          · exact Or.inr (Or.inl n5)
        · rw [f78]; exact (n3 (2 * k + 1) (by omega)).1.trans hi.2.1
        · rw [x52, if_pos rfl, a76]; exact hi.2.2
        · rw [x50, if_neg h2]; exact (n2 x h1).1
        · rw [x51]; exact (n2 x h1).2
        · rw [x52, if_neg hx, y52]
  · refine DD.tw D (sA σ 50 (w32 (t + 1)) 0) ((FT.refl _ _).ssA (S := [50]) (by decide)) (fun Q h => ⟨by omega, h⟩) (fun u eu D _ => ?_)
    refine DD.tw D (sA u 52 s 0) ((FT.refl _ _).ssA (S := [52]) (by decide)) (fun Q h => ⟨by omega, h⟩) (fun u eu D _ => ?_)
    refine DD.c (fun Q h => br0 (fun y => ?_) h) (DD.ret (b := ()) D (fun Q h => h))
    have h1 := (isOp_ff u).mp y.2
    have h2 := (D.ns y.1 0).2.2
    have : tI u 3 = 5 := h1.1
    omega
end ZSum2
