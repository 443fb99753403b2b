/-! the loop over a function's rules, both -/
section ZFunc3
variable {p b e d : Nat} {w : CW} {τ : TW}
theorem GFn.add {f F m i lo : Nat} {u u1 : CW} {σ σ1 : TW} (h : GFn p u σ f F m i lo) (i16 : i < 16) (n : RuF p f i F (F + 2) u σ u1 σ1) (k1 : CF p [fR u 15 p, fR u 16 p, F, F + 2] SPC SPU u σ u1 σ1) : GFn p u1 σ1 f F m (i + 1) lo ∧ UFo σ σ1 f := by
  obtain ⟨⟨a1, a2, a3, a4, a5⟩, ⟨⟨h1, h2, h3, h4, h5⟩, ⟨b1, b2⟩, ⟨c1, c2, c3⟩, ⟨d1, d2, d3⟩⟩, ⟨e1, e2, e3, e4⟩, m1, ⟨f1, f2, f3, s, f5, f4⟩, f51, f12, f41⟩ := h
  obtain ⟨n1, ⟨x, n2, n3, n4⟩, ⟨n5, n6, n7⟩, ⟨n8, n9⟩, n10⟩ := n
  have F1 := k1.2.2.2.1
  have W := a1.1
  have npm : np σ ≤ np σ1 := (n10 12 0 (by decide) (by omega)).1
  have hnA := a3.1.2.2.2
  have hnB := a3.2.2.2.2
  have t : ∀ r, tg u r ≠ 0 → tg u1 r = tg u r ∧ ln u1 r = ln u r := fun r hr => k1.1.2.2.2.1 r (W.le hr)
  have o1 := b2.fr W k1.1 (by
    intro y
    simp only [List.mem_cons, List.not_mem_nil, or_false] at y
    have hA : fR u 15 p ≤ p + 8 := hnA
    have hB : fR u 16 p ≤ p + 8 := hnB
    omega)
  have K0 := a2.1
  have k0 : tg u (fR u 0 p) = 112 := K0.1
  have hk : KdK p u u1 σ σ1 := ⟨by unfold nK; rw [(F1 10 (by decide)).1]; exact Nat.le_refl _, fun k _ => ⟨kd_fr2 K0 k1.1 (k1.2.1 0 (by decide)).2 (fun y => by
    have k15 : tg u (fR u 15 p) = 103 := a3.1.1
    have k16 : tg u (fR u 16 p) = 102 := a3.2.1
    have kp : p < fR u 0 p := K0.2.2.1
    simp only [List.mem_cons, List.not_mem_nil, or_false] at y
    rcases y with y | y | y | y | y
    · omega
    · rw [y, k15] at k0; cases k0
    · rw [y, k16] at k0; cases k0
    · rw [y, h1] at k0; cases k0
    · rw [y, c2] at k0; cases k0) k, (F1 14 (by decide)).2 _, fun _ _ => (F1 15 (by decide)).2 _⟩⟩
  have hTk : TkF p u [p, fR u 15 p, fR u 16 p, F, F + 2] := fun y hy => by
    simp only [List.mem_cons, List.not_mem_nil, or_false] at hy
    rcases hy with hy | hy | hy | hy | hy
    · left; omega
    · left; rw [hy]; exact hnA
    · left; rw [hy]; exact hnB
    · right; right; left; rw [hy]; exact h1
    · right; right; right; left; rw [hy]; exact c2
  refine ⟨⟨n1, ⟨⟨by rw [(t F (by rw [h1]; decide)).1]; exact h1, h2, by rw [n6 43 (by decide)]; exact h3, by rw [n6 44 (by decide), (F1 42 (by decide)).2]; exact h4, by rw [n7]; exact h5⟩, ⟨by rw [n7]; exact b1, o1.1⟩, ⟨by rw [n7]; exact c1, (t _ (by rw [c2]; decide)).1.trans c2, (t _ (by rw [c2]; decide)).2.trans c3⟩, ⟨by rw [n7]; exact d1, (t _ (by rw [d2]; decide)).1.trans d2, (t _ (by rw [d2]; decide)).2.trans d3⟩⟩, ⟨by rw [(F1 43 (by decide)).2]; exact e1, by rw [n6 46 (by decide)]; exact e2, e3, fun j hj => ?_⟩, m1, ⟨n8, n5, by omega, (fun j => if j = i + 1 then np σ1 else if j = i then np σ else s j), ⟨?_, Nat.le_of_eq (if_pos rfl)⟩, fun i' hi' => ⟨?_, ?_⟩⟩, by rw [n6 51 (by decide)]; exact f51, f12, by rw [(F1 41 (by decide)).1]; exact f41⟩, fun f' i' q1 q2 => n10 f' i' q1 (by omega), n9⟩
  · rw [o1.2, (F1 44 (by decide)).2]
    have := e4 j hj
    have nk : nK σ1 = nK σ := by unfold nK; rw [(F1 10 (by decide)).1]
    rw [nk]; exact this
  · show lo ≤ (if 0 = i + 1 then np σ1 else if 0 = i then np σ else s 0)
    rw [if_neg (by omega)]
    split
    · rename_i z
      rw [← z] at f5
      omega
    · exact f5.1
  · show (if i' = i + 1 then np σ1 else if i' = i then np σ else s i') ≤ (if i' + 1 = i + 1 then np σ1 else if i' + 1 = i then np σ else s (i' + 1))
    rw [if_neg (by omega)]
    by_cases z : i' = i
    · rw [if_pos z, if_pos (by omega)]
      exact npm
    · rw [if_neg z, if_neg (by omega)]
      have q := (f4 i' (by omega)).1
      by_cases y : i' + 1 = i
      · rw [if_pos y]
        rw [y] at q
        omega
      · rw [if_neg y]; exact q
  · show RuR p u1 σ1 f i' (aR u1 (F + 2) i') (if i' = i + 1 then np σ1 else if i' = i then np σ else s i') (if i' + 1 = i + 1 then np σ1 else if i' + 1 = i then np σ else s (i' + 1))
    rw [n4, if_neg (by omega : ¬ i' = i + 1)]
    by_cases z : i' = i
    · rw [if_pos z, if_pos z, if_pos (by omega), z]; exact n2
    · rw [if_neg z, if_neg z, if_neg (by omega)]
      have q := ((f4 i' (by omega)).2).fr W k1.1 hTk hk (n10 f i' (by omega) (by omega))
      by_cases y : i' + 1 = i
      · rw [if_pos y]
        rw [y] at q
        exact q.up (by omega) npm
      · rw [if_neg y]; exact q
theorem fe_loop {f F m M n15 n16 lo : Nat} {T S S' : List Nat} (hT : n15 ∈ T ∧ n16 ∈ T ∧ F ∈ T ∧ F + 2 ∈ T) (hS : ∀ g, g ∈ SPC → g ∈ S) (hS' : ∀ g, g ∈ SPU → g ∈ S') : ∀ (g i : Nat) (u : CW) (σ : TW), (tI σ 1 - tI σ 5).toNat ≤ g → GFn p u σ f F m i lo → (fR u 15 p = n15 ∧ fR u 16 p = n16) → Rm 7000 u σ →
    OUTb p b T S S' (-5900) 700 (fun (_ : Unit) (_ : Unit) w' τ' => (∃ i', GFn p w' τ' f F m i' lo) ∧ UFo σ τ' f) (cmG (feC p (M + 40) F) (fun _ _ I => I u)) (tmL (feT (e + 10) f) (fun _ I => I σ)) u σ := by
  intro g
  induction g using Nat.strongRecOn with
  | ind g ih =>
  intro i u σ hg hG hn hR
  obtain ⟨⟨rb, K, nA, q16, q5⟩, ⟨⟨h1, h2, h3, h4, h5⟩, ⟨b1, b2⟩, ⟨c1, c2, c3⟩, ⟨d1, d2, d3⟩⟩, ⟨e1, e2, e3, e4⟩, m1, ⟨f1, f2, f3, -⟩, f51, f12, f41⟩ := id hG
  by_cases z : ff_isSign 125 σ = 0
  · refine OUTb.kT (F' := fun Q X I => wpC p (M + 40) 21 [ar p, ar F] u (zqV (fun u63 => I u63) (fun x65 u66 => X x65 u66))) (fun Q X I l k => l u (sR_isSign (d := M + 39) rb (by decide) (br1 z k))) (OUTb.gT (G' := fun Q I => wpT (e + 10) 23 [ai f] σ (zqV (fun u39 => I u39) zno)) (fun Q I l k => l σ (br1 ⟨rb.f0, z⟩ k)) ?_)
    have hr := (pr_rule (e := e) (M := M) (i := i) (rr := F + 2) ⟨rb, K, nA, q16, q5⟩ ⟨h1, h2, e2, by rw [b1]; exact b2⟩ (fun j hj => by rw [b1]; exact e4 j hj) ⟨e1, m1, e3⟩ f12 ⟨f2, f1, f3⟩ ⟨c1, c2, c3, by omega⟩ (hR.le (by decide))).more (by decide)
    refine OUTb.gV hR hr (fun Q X I l k => k) (fun Q I l k => k) (fun _ _ u1 σ1 rb1 n1 k1 hR1 => ?_) (fun h pl σ1 D F1 => (fe_dead (e := e) D f12 (by rw [(F1 41 (by decide)).1]; exact f41) (by rw [(F1 43 (by decide)).2, e1]; omega)).mono (fun g hg => hS' g ((by decide : ∀ g, g ∈ [7, 8, 27, 28, 31, 32, 48, 49] → g ∈ SPU) g hg))) (hTT := fun r hr => by
      simp only [List.mem_cons, List.not_mem_nil, or_false] at hr
      left
      rcases hr with hr | hr | hr | hr
      · rw [hr, hn.1]; exact hT.1
      · rw [hr, hn.2]; exact hT.2.1
      · rw [hr]; exact hT.2.2.1
      · rw [hr]; exact hT.2.2.2) (hS := hS) (hS' := hS')
    obtain ⟨⟨i16, nF⟩, nfr⟩ := n1
    obtain ⟨G1, U1⟩ := hG.add i16 nF k1
    have k5 : tI σ1 1 = tI σ 1 := k1.2.2.2.2.2
    have hlt : tI σ 5 < tI σ 1 := by
      have q1 := rb1.rg
      have q2 : tI σ1 5 = tI σ1 5 := rfl
      have q3 : tI σ1 1 = tI σ1 1 := rfl
      omega
    have q := (ih ((tI σ1 1 - tI σ1 5).toNat) (by omega) (i + 1) u1 σ1 (Nat.le_refl _) G1 ⟨by rw [(k1.2.1 15 (by decide)).2]; exact hn.1, by rw [(k1.2.1 16 (by decide)).2]; exact hn.2⟩ (hR1.le (by decide))).nn (N' := fun (_ : Unit) (_ : Unit) w' τ' => (∃ i', GFn p w' τ' f F m i' lo) ∧ UFo σ τ' f) (fun v v' w' τ' _ _ n => ⟨n.1, U1.trans n.2⟩)
    exact q.le
  · refine OUTb.kT (F' := fun Q X _ => wpC p (M + 40) 4 [ar p] u (zqV (fun u59 => Q () u59) (fun x61 u62 => X x61 u62))) (fun Q X I l k => l u (sR_isSign (d := M + 39) rb (by decide) (br0 z (bC_X0_readFunction_223 k)))) (OUTb.gT (G' := fun Q _ => wpT (e + 10) 20 [ai 125] σ (zqV (fun u40 => Q () u40) zno)) (fun Q I l k => l σ (br0 (fun y => z y.2) (bT_readFunction_233 k))) (OUTb.kO (OUTb.gO ?_)))
    refine OUTb.bVV hR (OUT.mn (d := M + 28) (e := e + 4) (T := []) (S := [9, 10, 11, 12, 13, 14]) (S' := [2, 3, 4, 5, 6]) rb z (fun f hf => hf) (fun f hf => hf) (hR.le (by decide))) (fun Q X h => h) (fun Q h => h) (fun _ _ u1 σ1 rb1 n1 k1 hR1 => ?_) (fun h pl σ1 D F1 => DD.ret (b := ()) D (fun Q h => h)) (hS := fun g hg => hS g ((by decide : ∀ g, g ∈ [9, 10, 11, 12, 13, 14] → g ∈ SPC) g hg)) (hS' := fun g hg => hS' g ((by decide : ∀ g, g ∈ [2, 3, 4, 5, 6] → g ∈ SPU) g hg))
    exact OUTb.ret (v := ()) (v' := ()) rb1 ⟨⟨i, hG.nx k1 rb1⟩, UFo.ft k1.2.2.2.1 (by decide) f⟩ (fun Q X h => h) (fun Q h => h)
end ZFunc3
