/-! a function's columns, both -/
section ZFunc6
variable {p b e d : Nat} {w : CW} {τ : TW}
theorem GCn.add {f F m : Nat} {s : Int} {u u1 u2 : CW} {σ σ2 σ3 : TW} (h : GCn p u σ f F m) (m3 : m < 3) (hs : 0 ≤ s ∧ s < 3 + nK σ) (hu1 : u1 = pI (qI u (F + 1) m s) 46 F (m + 1 : Nat)) (k2 : CF p [] [9, 10, 11, 12, 13, 14] [2, 3, 4, 5, 6] u1 σ u2 σ2) (rb2 : RB p u2 σ2) (h3 : σ3 = sA (sA σ2 44 (3 * f + m : Nat) s) 43 f (m + 1 : Nat)) : GCn p u2 σ3 f F (m + 1) ∧ UFo σ σ3 f ∧ RB p u2 σ3 ∧ FT [43, 44] σ2 σ3 := by
  obtain ⟨⟨a1, a2, a3, a4, a5⟩, ⟨⟨h1, h2, h3', h4, h5⟩, ⟨b1, b2⟩, ⟨c1, c2, c3⟩, ⟨d1, d2, d3⟩⟩, ⟨e1, e2, e3, e4⟩, ⟨f1, f2⟩, f51, f12, f41⟩ := h
  have F3 : FT [43, 44] σ2 σ3 := by rw [h3]; exact ((FT.refl _ _).ssA (by decide)).ssA (by decide)
  have F2 := k2.2.2.2.1
  have FA : FT [2, 3, 4, 5, 6, 43, 44] σ σ3 := (F2.mono (by decide)).trans (F3.mono (by decide))
  have rb3 := rb2.ft F3 (by decide)
  have fr1 : Fr [p, F + 1, F] u u1 := by rw [hu1]; exact ((Fr.refl _ _).sqI (Or.inl (by simp))).spI (Or.inl (by simp))
  have fr2 : Fr [p, F + 1, F] u u2 := fr1.trans (k2.1.mono (fun r hr => Or.inl (by rw [List.mem_singleton.mp hr]; simp)))
  have pf1 : PF [] p u u1 := by rw [hu1]; exact ((PF.refl _ _ _).sqI).spI (Or.inr (by omega))
  have pf2 : PF [9, 10, 11, 12, 13, 14] p u u2 := (pf1.mono (fun f hf => by cases hf)).trans k2.2.1
  have W := a1.1
  have t : ∀ r, tg u r ≠ 0 → tg u2 r = tg u r ∧ ln u2 r = ln u r := fun r hr => fr2.2.2.2.1 r (W.le hr)
  have hz1 : cz u1 = cz u := by rw [hu1]; rfl
  have lF := W.le (r := F) (by rw [h1]; decide)
  have l1 := W.le (r := F + 1) (by rw [b2.1]; decide)
  have oF := k2.1.2.2.2.2 F (by omega) (by simp; omega)
  have o1 := k2.1.2.2.2.2 (F + 1) (by omega) (by simp; omega)
  have gI : ∀ g, g ≠ 46 → fI u2 g F = fI u g F := fun g hg => by
    rw [ob.efI oF, hu1, fI_of _ _ _ _ hg]; rfl
  have gR : ∀ g, fR u2 g F = fR u g F := fun g => by rw [ob.efR oF, hu1]; rfl
  have g46 : fI u2 46 F = (m + 1 : Nat) := by rw [ob.efI oF, hu1]; exact fI_at _ _ _ _
  have aF : ∀ j : Nat, aI u2 (F + 1) j = if j = m then s else aI u (F + 1) j := fun j => by
    rw [ob.eaI o1, hu1]
    show aI (qI u (F + 1) m s) (F + 1) j = _
    rw [aI_qI]
    by_cases z : j = m
    · rw [if_pos ⟨rfl, by omega⟩, if_pos z]
    · rw [if_neg (by omega), if_neg z]
  have t44 : ∀ y : Nat, tA σ3 44 y = if y = 3 * f + m then s else tA σ 44 y := fun y => by
    rw [h3, tA_sA, if_neg (by omega), tA_sA, (F2 44 (by decide)).2]
    by_cases z : y = 3 * f + m
    · rw [if_pos ⟨rfl, by omega⟩, if_pos z]
    · rw [if_neg (by omega), if_neg z]
  have t43 : ∀ y : Nat, tA σ3 43 y = if y = f then ((m + 1 : Nat) : Int) else tA σ 43 y := fun y => by
    rw [h3, tA_sA]
    by_cases z : y = f
    · rw [if_pos ⟨rfl, by omega⟩, if_pos z]
    · rw [if_neg (by omega), if_neg z, tA_sA, if_neg (by omega), (F2 43 (by decide)).2]
  have nk : nK σ3 = nK σ := by unfold nK; rw [(FA 10 (by decide)).1]
  have K2 : KR p u2 σ3 := KR.fr2 W a2 fr2 ⟨(pf2 0 (by decide)).2, (pf2 1 (by decide)).1⟩ (fun r hr => by
    have k0 : tg u (fR u 0 p) = 112 := a2.1.1
    have k1 : p < fR u 0 p := a2.1.2.2.1
    simp only [List.mem_cons, List.not_mem_nil, or_false] at hr
    rcases hr with hr | hr | hr
    · exact Or.inl ⟨by omega, by omega⟩
    · rw [hr]; exact Or.inr (Or.inr ⟨b2.2.2, by rw [b2.1]; decide, fun _ => by rw [Nat.add_sub_cancel, h1]; decide⟩)
    · rw [hr]; exact Or.inr (Or.inr ⟨h2, by rw [h1]; decide, fun y => by rw [h1] at y; cases y⟩)) FA (by decide)
  refine ⟨⟨⟨rb3, K2, ?_, ?_, ?_⟩, ⟨⟨(t F (by rw [h1]; decide)).1.trans h1, h2, (gI 43 (by decide)).trans h3', by rw [gI 44 (by decide), (FA 42 (by decide)).2]; exact h4, (gR 55).trans h5⟩, ⟨(gR 45).trans b1, ⟨(t _ (by rw [b2.1]; decide)).1.trans b2.1, (t _ (by rw [b2.1]; decide)).2.trans b2.2.1, b2.2.2⟩⟩, ⟨(gR 47).trans c1, (t _ (by rw [c2]; decide)).1.trans c2, (t _ (by rw [c2]; decide)).2.trans c3⟩, ⟨(gR 50).trans d1, (t _ (by rw [d2]; decide)).1.trans d2, (t _ (by rw [d2]; decide)).2.trans d3⟩⟩, ⟨by rw [t43, if_pos rfl], g46, by omega, fun j hj => ?_⟩, ⟨by rw [(FA 45 (by decide)).2]; exact f1, (gI 48 (by decide)).trans f2⟩, (gI 51 (by decide)).trans f51, f12, by rw [(FA 41 (by decide)).1]; exact f41⟩, ⟨fun f' i' q1 q2 => ?_, fun y _ => (FA 45 (by decide)).2 _⟩, rb3, F3⟩
  · obtain ⟨⟨k1, k2', k3, k4⟩, k5, k6, k7, k8⟩ := a3
    have t15 := t (fR u 15 p) (by rw [show tg u (fR u 15 p) = 103 from k1]; decide)
    have t16 := t (fR u 16 p) (by rw [show tg u (fR u 16 p) = 102 from k5]; decide)
    have p15 := (pf2 15 (by decide)).2
    have p16 := (pf2 16 (by decide)).2
    unfold NA
    rw [p15, p16]
    exact ⟨⟨t15.1.trans k1, t15.2.trans k2', k3, k4⟩, t16.1.trans k5, t16.2.trans k6, k7, k8⟩
  · rw [(FA 16 (by decide)).1, np_ft FA (by decide)]; exact a4
  · rw [np_ft FA (by decide)]
    have y1 := k2.2.2.2.2.1
    have y3 : tI σ 5 = tI σ 5 := rfl
    have y4 : tI σ2 5 = tI σ2 5 := rfl
    have y5 : tI σ3 5 = tI σ2 5 := (F3 5 (by decide)).1
    omega
  · rw [aF, t44, nk]
    by_cases z : j = m
    · rw [if_pos z, if_pos (by omega)]
      exact ⟨rfl, hs.1, hs.2⟩
    · rw [if_neg z, if_neg (by omega)]
      exact e4 j (by omega)
  · have g : ∀ h, 10 ≤ h → h ≠ 43 → h ≠ 44 → ∀ x, tA σ3 h x = tA σ h x := fun h q1 q2 q3 => (FA h (by simp only [List.mem_cons, List.not_mem_nil, or_false]; omega)).2
    exact ⟨by rw [np_ft FA (by decide)]; exact Nat.le_refl _, fun h h1 h2 x _ => g h (by omega) (by omega) (by omega) _, fun h hh => g h (by omega) (by omega) (by omega) _, fun x _ => g 30 (by decide) (by decide) (by decide) _, fun x _ => ⟨g 50 (by decide) (by decide) (by decide) _, g 51 (by decide) (by decide) (by decide) _⟩, fun x _ => g 52 (by decide) (by decide) (by decide) _, fun x _ => ⟨g 59 (by decide) (by decide) (by decide) _, g 60 (by decide) (by decide) (by decide) _⟩, by rw [t43, if_neg q2], fun x hx => by rw [t44, if_neg (by omega)]⟩
theorem uf_loop {f F M n15 n16 : Nat} {T S S' : List Nat} (hT : n15 ∈ T ∧ n16 ∈ T ∧ F ∈ T ∧ F + 2 ∈ T ∧ F + 1 ∈ T) (hS : ∀ g, g ∈ SPC → g ∈ S) (hS' : ∀ g, g ∈ SPV → g ∈ S') : ∀ (g m : Nat) (u : CW) (σ : TW), m + g = 3 → GCn p u σ f F m → (fR u 15 p = n15 ∧ fR u 16 p = n16) → Rm 9000 u σ →
    OUTb p b T S S' (-23600) 700 (fun (_ : Unit) (_ : Unit) w' τ' => (∃ m i, GFn p w' τ' f F m i (np σ)) ∧ UFo σ τ' f) (cmG (ufLC p (M + 40) F) (fun Q X I => ufC p (wpC p (M + 40)) (fun w => Q () w) (fun x w => X x w) F I u)) (tmL (ufLT (e + 10) f) (fun _ I => I 1 σ)) u σ := by
  have inS : ∀ g, g ∈ [9, 10, 11, 12, 13, 14] → g ∈ S := fun g hg => hS g ((by decide : ∀ g, g ∈ [9, 10, 11, 12, 13, 14] → g ∈ SPC) g hg)
  have inS' : ∀ g, g ∈ [2, 3, 4, 5, 6] → g ∈ S' := fun g hg => hS' g ((by decide : ∀ g, g ∈ [2, 3, 4, 5, 6] → g ∈ SPV) g hg)
  have in78 : ∀ g, g ∈ [7, 8] → g ∈ S' := fun g hg => hS' g ((by decide : ∀ g, g ∈ [7, 8] → g ∈ SPV) g hg)
  have in34 : ∀ g, g ∈ [43, 44] → g ∈ S' := fun g hg => hS' g ((by decide : ∀ g, g ∈ [43, 44] → g ∈ SPV) g hg)
  intro g
  induction g with
  | zero =>
    intro m u σ hg hG hn hR
    have m3 : m = 3 := by omega
    subst m3
    obtain ⟨⟨rb, K, nA, q16, q5⟩, ⟨⟨h1, h2, h3', h4, h5⟩, ⟨b1, b2⟩, ⟨c1, c2, c3⟩, ⟨d1, d2, d3⟩⟩, ⟨e1, e2, e3, e4⟩, ⟨f1, f2⟩, f51, f12, f41⟩ := id hG
    have hff : (0 : Int) ≤ (f : Int) ∧ (f : Int) < 12 := by omega
    have hroom := Rm.room rb hR (k := 1) (n := 8) (by decide)
    have k0 : 0 ≤ tI σ 10 := K.2.2.1
    have k24 : tI σ 10 ≤ 24 := K.2.2.2.1
    have e19 : (if tA σ 43 f = 3 then (1 : Int) else 0) = 1 := if_pos (by rw [e1]; rfl)
    by_cases hs : srt σ = -1
    · obtain ⟨σ', s, ⟨a, bb, c⟩, run⟩ := sT_readSortNo (d := e + 5) (much := 1) k0 k24 rb.f0 hs
      rw [if_neg rb.n7] at bb
      refine OUTb.gX (how := if tI σ 3 = 2 then 4 else 2) (pl := tI σ 5) rb (fun Q X I l k => ufC_i (sC_readSortNo (d := M + 33) rb K hs hroom k)) (DD.mono (S1 := [7, 8]) (DD.pre (tm' := tmL (ufLT (e + 10) f) (fun (Q : Unit → TW → Prop) I => pT_readFunction_187 (wpT (e + 10)) (fun w => Q () w) I f σ')) (S1 := [7, 8]) a (fun Q k I l => l 1 σ (br1 ⟨by decide, rb.f0⟩ ⟨hff, fun v hv2 => ?_⟩)) (uf_dead187 (e := e) bb)) in78)
      rw [hv2, e19]
      exact run _ (br0 c (k I l))
    · obtain ⟨σ', ⟨a, bb, c⟩, run⟩ := RB.fails (e := e + 8) rb (k := 9) (pl := tI σ 5) (by decide)
      refine OUTb.gX (how := 9) (pl := tI σ 5) rb (fun Q X I l k => ufC_i (sC_readSort (d := M + 33) rb K hs ⟨by rw [h1]; decide, fa (rb.needNo (d := M + 36) (if_neg (by rw [e2]; exact fun y => y (Int.le_refl 3))) hroom k)⟩)) (DD.mono (S1 := [7, 8]) (DD.pre (tm' := tmL (ufLT (e + 10) f) (fun (Q : Unit → TW → Prop) I => pT_readFunction_187 (wpT (e + 10)) (fun w => Q () w) I f σ')) (S1 := [7, 8]) a (fun Q k I l => l 1 σ (br1 ⟨by decide, rb.f0⟩ ⟨hff, fun v hv2 => ?_⟩)) (uf_dead187 (e := e) bb)) in78)
      rw [hv2, e19]
      exact sT_readSort (d := e + 5) k0 k24 hs (br0 (by decide) (run _ (br0 c (br0 c (k I l)))))
  | succ g ih =>
    intro m u σ hg hG hn hR
    obtain ⟨⟨rb, K, nA, q16, q5⟩, ⟨⟨h1, h2, h3', h4, h5⟩, ⟨b1, b2⟩, ⟨c1, c2, c3⟩, ⟨d1, d2, d3⟩⟩, ⟨e1, e2, e3, e4⟩, ⟨f1, f2⟩, f51, f12, f41⟩ := id hG
    have hff : (0 : Int) ≤ (f : Int) ∧ (f : Int) < 12 := by omega
    have hroom := Rm.room rb hR (k := 1) (n := 8) (by decide)
    have k0 : 0 ≤ tI σ 10 := K.2.2.1
    have k24 : tI σ 10 ≤ 24 := K.2.2.2.1
    have e19 : (if tA σ 43 f = 3 then (1 : Int) else 0) = 0 := if_neg (by rw [e1]; omega)
    by_cases hs : srt σ = -1
    · obtain ⟨σ', s, ⟨a, bb, c⟩, run⟩ := sT_readSortNo (d := e + 5) (much := 0) k0 k24 rb.f0 hs
      rw [if_neg rb.n7] at bb
      refine OUTb.gX (how := if tI σ 3 = 2 then 4 else 2) (pl := tI σ 5) rb (fun Q X I l k => ufC_i (sC_readSortNo (d := M + 33) rb K hs hroom k)) (DD.mono (S1 := [7, 8]) (DD.pre (tm' := tmL (ufLT (e + 10) f) (fun (Q : Unit → TW → Prop) I => pT_readFunction_187 (wpT (e + 10)) (fun w => Q () w) I f σ')) (S1 := [7, 8]) a (fun Q k I l => l 1 σ (br1 ⟨by decide, rb.f0⟩ ⟨hff, fun v hv2 => ?_⟩)) (uf_dead187 (e := e) bb)) in78)
      rw [hv2, e19]
      exact run _ (br0 c (k I l))
    · have hs0 : tI σ 3 ≠ 0 := by
        intro y
        apply hs
        have y' : tI σ 3 = 0 := y
        unfold srt
        rw [if_neg (by omega), if_neg (by omega)]
      have hrg := srt_rg hs
      obtain ⟨s, hse⟩ : ∃ s, s = srt σ := ⟨_, rfl⟩
      obtain ⟨u1, hu1⟩ : ∃ u1, u1 = pI (qI u (F + 1) m s) 46 F (m + 1 : Nat) := ⟨_, rfl⟩
      have e44 : w32 ((w32 (3 * (f : Int))) + (m : Int)) = ((3 * f + m : Nat) : Int) := ix3 rfl rfl (by omega)
      have lF := rb.1.le (r := F) (by rw [h1]; decide)
      have l1 := rb.1.le (r := F + 1) (by rw [b2.1]; decide)
      refine OUTb.kC (T1 := [F + 1, F]) (S1 := []) (k := 0) (F2 := fun v Q X I => wpC p (M + 40) 4 [ar p] v (zqV (fun u43 => wpC p (M + 40) 16 [ar p, ai 44] u43 (zqI (fun v46 u45 => (v46 = 0 → pC_X0_readFunction_186 p (wpC p (M + 40)) (fun w => Q () w) (fun x w => X x w) F u45) ∧ (¬ (v46 = 0) → I u45)) zno)) (fun x73 u74 => X x73 u74))) hR rb u1 ?_ ?_ ?_ (by rw [hu1]; exact Int.le_refl _) (by decide) (fun Q X I l k => ufC_i (sC_readSort (d := M + 33) rb K hs ⟨by rw [h1]; decide, fa (sC_needOk (d := M + 39) (by rw [if_pos (by rw [e2]; omega)]; decide) ⟨by rw [h1]; decide, by rw [h1]; decide, ?_, fa ⟨?_, ?_, fa ?_⟩⟩)⟩)) (fun r hr => ?_) (fun u2 hu2 rb2 k2 hR2 => ?_) (fun f hf => by cases hf)
      · rw [hu1]; exact ((Fr.refl _ _).sqI (Or.inl (by simp))).spI (Or.inl (by simp))
      · rw [hu1]; exact ((PF.refl _ _ _).sqI).spI (Or.inr (by omega))
      · rw [hu1]; exact (rb.1.sqI _ _ _).spI _ _ _
      · rw [b1, e2]; exact ⟨b2.1, by omega, by rw [b2.2.1]; omega⟩
      · show hF 46 (tg u F) = true; rw [h1]; decide
      · show hP 46 (tg u F) = true; rw [h1]; decide
      · have e5 : pI (qI u (fR u 45 F) (fI u 46 F) (srt σ)) 46 F (w32 (fI (qI u (fR u 45 F) (fI u 46 F) (srt σ)) 46 F + 1)) = u1 := by
          rw [hu1, b1, show fI (qI u (F + 1) (fI u 46 F) (srt σ)) 46 F = fI u 46 F from rfl, e2, w32_k (by omega), hse]
        rw [e5]
        exact k u1 rfl
      · simp only [List.mem_cons, List.not_mem_nil, or_false] at hr
        rcases hr with hr | hr
        · rw [hr]; exact ⟨Or.inl hT.2.2.2.2, by omega, Or.inr ⟨by rw [b2.1]; decide, l1⟩⟩
        · rw [hr]; exact ⟨Or.inl hT.2.2.1, by omega, Or.inr ⟨by rw [h1]; decide, lF⟩⟩
      · subst hu2
        refine OUTb.gT (G' := fun Q I => wpT (e + 9) 4 [] σ (zqV (fun u20 => ((tI u20 7) = 0 → (0 ≤ (f : Int) ∧ (f : Int) < 12) ∧ (0 ≤ (w32 ((w32 (3 * (f : Int))) + (tA u20 43 f))) ∧ (w32 ((w32 (3 * (f : Int))) + (tA u20 43 f))) < 36) ∧ ∀ u26 : TW, u26 = sA u20 44 (w32 ((w32 (3 * (f : Int))) + (tA u20 43 f))) s → (0 ≤ (f : Int) ∧ (f : Int) < 12) ∧ (0 ≤ (f : Int) ∧ (f : Int) < 12) ∧ ∀ u29 : TW, u29 = sA u26 43 f (w32 ((tA u26 43 f) + 1)) → pT_readFunction_187 (wpT (e + 10)) (fun w => Q () w) I f u29) ∧ (¬ ((tI u20 7) = 0) → pT_readFunction_187 (wpT (e + 10)) (fun w => Q () w) I f u20)) zno)) (fun Q I l k => l 1 σ (br1 ⟨by decide, rb.f0⟩ ⟨hff, fun v hv2 => by
          rw [hv2, e19]
          rw [hse] at k
          exact sT_readSort (d := e + 5) k0 k24 hs (br1 rfl (br1 rb.f0 k))⟩)) ?_
        refine OUTb.gV hR2 (OUT.nx1 (d := M + 28) (e := e + 5) rb2 hs0 (hR2.le (by decide))) (fun Q X I l k => k) (fun Q I l k => k) (fun _ _ u4 σ4 rb4 n4 k4 hR4 => ?_) (fun h pl σ4 D F4 => ?_) (hS := inS) (hS' := inS')
        · obtain ⟨σ5, h5e⟩ : ∃ σ5, σ5 = sA (sA σ4 44 (3 * f + m : Nat) s) 43 f (m + 1 : Nat) := ⟨_, rfl⟩
          obtain ⟨G5, U5, rb5, F5⟩ := hG.add (s := s) (by omega) (by rw [hse]; exact hrg) hu1 k4 rb4 h5e
          have e43 : tA σ4 43 f = m := by rw [(k4.2.2.2.1 43 (by decide)).2]; exact e1
          have hn4 : fR u4 15 p = n15 ∧ fR u4 16 p = n16 := ⟨by rw [(k4.2.1 15 (by decide)).2, hu1]; exact hn.1, by rw [(k4.2.1 16 (by decide)).2, hu1]; exact hn.2⟩
          refine OUTb.tM (τ' := σ5) (tm' := tmL (ufLT (e + 10) f) (fun Q I => pT_readFunction_187 (wpT (e + 10)) (fun w => Q () w) I f σ5)) hR4 rb4 F5 (fun Q k I l => br1 rb4.f0 ⟨hff, by rw [e43, e44]; omega, fun v6 hv6 => ⟨hff, hff, fun v9 hv9 => ?_⟩⟩) (fun _ hR5 => ?_) in34
          · have e9 : v9 = σ5 := by
              rw [hv9, hv6, tA_sA, if_neg (by omega), e43, e44, w32_k (by omega), h5e]
            rw [e9]
            exact k I l
          · have enp5 : np σ5 = np σ := (np_ft F5 (by decide)).trans (np_ft k4.2.2.2.1 (by decide))
            by_cases z : ff_isSign 44 σ5 = 0
            · refine OUTb.kT (F' := fun Q X _ => pC_X0_readFunction_186 p (wpC p (M + 40)) (fun w => Q () w) (fun x w => X x w) F u4) (fun Q X I l k => sR_isSign (d := M + 39) rb5 (by decide) (br1 z k)) (OUTb.gT (G' := fun Q _ => pT_readFunction_197 (wpT (e + 10)) (fun w => Q () w) f σ5) (fun Q I l k => bT_readFunction_187 (sT_takesNo (d := e + 8) z _ (l 0 σ5 (br0 (fun y => y.1 rfl) k)))) (OUTb.kO (OUTb.gO ?_)))
              exact ((uf_end (e := e) (M := M) (b := b) ⟨hT.1, hT.2.1, hT.2.2.1, hT.2.2.2.1⟩ hS hS' G5 (by omega) hn4 (hR5.le (by decide))).nn (fun v v' w' τ' _ _ n => ⟨by rw [← enp5]; exact n.1, U5.trans n.2⟩)).le
            · have s5 : tI σ5 3 ≠ 0 := by
                intro y
                exact z (ff_s0 (fun q => by omega))
              refine OUTb.kT (F' := fun Q X I => wpC p (M + 40) 4 [ar p] u4 (zqV (fun u28 => ufC p (wpC p (M + 40)) (fun w => Q () w) (fun x w => X x w) F I u28) (fun x81 u82 => X x81 u82))) (fun Q X I l k => sR_isSign (d := M + 39) rb5 (by decide) (br0 z (l _ k))) (OUTb.gT (G' := fun Q I => wpT (e + 9) 4 [] σ5 (zqV (fun u => ((1 : Int) = 0 ∨ (1 : Int) = 1) ∧ I 1 u) zno)) (fun Q I l k => bT_readFunction_187 (sT_takes1 (d := e + 5) rb5.f0 z k)) ?_)
              refine OUTb.gV hR5 (OUT.nx1 (d := M + 28) (e := e + 5) rb5 s5 (hR5.le (by decide))) (fun Q X I l k => k) (fun Q I l k => k) (fun _ _ u6 σ6 rb6 n6 k6 hR6 => ?_) (fun h pl σ6 D F6 => ?_) (hS := inS) (hS' := inS')
              · refine OUTb.gT (G' := fun _ I => I 1 σ6) (fun Q I l k => ⟨Or.inr rfl, k⟩) ?_
                exact ((ih (m + 1) u6 σ6 (by omega) (G5.nx k6 rb6) ⟨by rw [(k6.2.1 15 (by decide)).2]; exact hn4.1, by rw [(k6.2.1 16 (by decide)).2]; exact hn4.2⟩ (hR6.le (by decide))).nn (fun v v' w' τ' _ _ n => ⟨by rw [← enp5, ← np_ft k6.2.2.2.1 (by decide)]; exact n.1, (U5.trans (UFo.ft k6.2.2.2.1 (by decide) f)).trans n.2⟩)).le
              · refine DD.gT (G' := fun _ I => I 1 σ6) (fun Q I l k => ⟨Or.inr rfl, k⟩) ?_
                have K5 := G5.1.2.1
                exact (uf_dead (e := e) D f12 (by rw [(F6 10 (by decide)).1]; exact K5.2.2.1) (by rw [(F6 10 (by decide)).1]; exact K5.2.2.2.1)).mono in78
        · by_cases zf : tI σ4 7 = 0
          · have e43 : tA σ4 43 f = m := by rw [(F4 43 (by decide)).2]; exact e1
            obtain ⟨σ5, h5e⟩ : ∃ σ5, σ5 = sA (sA σ4 44 (3 * f + m : Nat) s) 43 f (m + 1 : Nat) := ⟨_, rfl⟩
            have F5 : FT [43, 44] σ4 σ5 := by rw [h5e]; exact ((FT.refl _ _).ssA (by decide)).ssA (by decide)
            refine DD.pre (tm' := tmL (ufLT (e + 10) f) (fun Q I => pT_readFunction_187 (wpT (e + 10)) (fun w => Q () w) I f σ5)) F5 (fun Q k I l => br1 zf ⟨hff, by rw [e43, e44]; omega, fun v6 hv6 => ⟨hff, hff, fun v9 hv9 => ?_⟩⟩) ((uf_dead187 (e := e) (D.ft F5 (by decide))).mono in78) in34
            have e9 : v9 = σ5 := by
              rw [hv9, hv6, tA_sA, if_neg (by omega), e43, e44, w32_k (by omega), h5e]
            rw [e9]
            exact k I l
          · exact DD.gT (G' := fun Q I => pT_readFunction_187 (wpT (e + 10)) (fun w => Q () w) I f σ4) (fun Q I l k => br0 zf k) ((uf_dead187 (e := e) D).mono in78)
end ZFunc6
