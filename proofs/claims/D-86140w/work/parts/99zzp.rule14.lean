/-! a rule, both: the whole -/
section ZRule14
variable {p b e d : Nat} {w : CW} {τ : TW}
abbrev SPU : List Nat := [2, 3, 4, 5, 6, 7, 8, 16, 17, 18, 19, 20, 21, 22, 23, 24, 25, 26, 27, 28, 29, 30, 31, 32, 33, 34, 35, 36, 37, 38, 39, 40, 45, 47, 48, 49, 50, 51, 52, 53, 54, 55, 56, 57, 58, 59, 60]
/-- what a rule leaves of its function -/
def RuF (p f i F rr : Nat) (w : CW) (τ : TW) (w' : CW) (τ' : TW) : Prop :=
  FS p w' τ' ∧ (∃ x, RuR p w' τ' f i x (np τ) (np τ') ∧ fR w' 66 x = 0 ∧ ∀ j : Nat, aR w' rr j = if j = i then x else aR w rr j) ∧ (fI w' 48 F = (i + 1 : Nat) ∧ (∀ g, g ≠ 48 → fI w' g F = fI w g F) ∧ ∀ g, fR w' g F = fR w g F) ∧ (tA τ' 45 f = (i + 1 : Nat) ∧ ∀ y : Nat, y ≠ f → tA τ' 45 y = tA τ 45 y) ∧ URo τ τ' (16 * f + i)
theorem pr_rule {f F m i rr M : Nat} (h : FS p w τ) (hFF : tg w F = 4 ∧ p + 8 < F ∧ fI w 46 F = m ∧ IArr p w (fR w 45 F) 3) (hso : ∀ j : Nat, j < m → aI w (fR w 45 F) j = tA τ 44 (3 * f + j : Nat) ∧ 0 ≤ tA τ 44 (3 * f + j : Nat) ∧ tA τ 44 (3 * f + j : Nat) < 3 + nK τ) (hm : tA τ 43 f = m ∧ 1 ≤ m ∧ m ≤ 3) (f12 : f < 12) (hi : fI w 48 F = i ∧ tA τ 45 f = i ∧ i ≤ 16) (hr : fR w 47 F = rr ∧ tg w rr = 117 ∧ ln w rr = 16 ∧ p + 8 < rr) (hR : Rm 6000 w τ) :
    OUT p [fR w 15 p, fR w 16 p, F, rr] SPC SPU (-5000) 600 (fun (_ : Unit) (_ : Unit) w' τ' => i < 16 ∧ RuF p f i F rr w τ w' τ') (fun Q X => wpC p (M + 40) 21 [ar p, ar F] w (zqV (Q ()) X)) (fun Q => wpT (e + 10) 23 [ai f] τ (zqV (Q ()) zno)) w τ := by
  obtain ⟨rb, K, nA, h16, h5⟩ := h
  obtain ⟨f1, f2, f3, f4⟩ := hFF
  obtain ⟨i1, i2, i3⟩ := hi
  have hff : (0 : Int) ≤ (f : Int) ∧ (f : Int) < 12 := by omega
  have pz := K.1.2.2.2.2
  obtain ⟨much, hmu⟩ : ∃ v : Int, v = if i = 16 then 1 else 0 := ⟨_, rfl⟩
  have hm01 : much = 0 ∨ much = 1 := by
    rw [hmu]
    split
    · exact Or.inr rfl
    · exact Or.inl rfl
  obtain ⟨x, hx⟩ : ∃ x, x = cz w + 1 := ⟨_, rfl⟩
  obtain ⟨A, hA⟩ : ∃ A, A = cz w + 3 := ⟨_, rfl⟩
  obtain ⟨u0, hu0⟩ : ∃ u0, u0 = ruW w p i (fI w 11 p) m much := ⟨_, rfl⟩
  obtain ⟨σ0, hσ0⟩ : ∃ σ0, σ0 = ruT τ (ruN f i) := ⟨_, rfl⟩
  obtain ⟨R, hRn⟩ : ∃ R, R = ruN f i := ⟨_, rfl⟩
  have R192 : R < 192 := by
    rw [hRn]
    unfold ruN
    split <;> omega
  have hroom := Rm.room rb hR (k := 3) (n := 23) (by decide)
  obtain ⟨q1, q2, q3, q4, q5⟩ := ruW_fr (p := p) rb.1 i (fI w 11 p) m much
  obtain ⟨⟨t1, t2, t3, t4, t5⟩, ⟨v1, v2, v3⟩, ⟨v4, v5, v6, v7, v8⟩, ⟨v9, v10, v11, v12⟩⟩ := ruW_at (p := p) rb.1 i (fI w 11 p) m much
  rw [← hu0] at q1 q2 q3 q4 q5 t1 t2 t3 t4 t5 v1 v2 v3 v4 v5 v6 v7 v8 v9 v10 v11 v12
  rw [← hx] at t1 v1 v2 v3 v4 v5 v6 v7 v8
  rw [← hA] at t4 t5 v4
  have F0 : FT [27, 28, 31, 48, 49] τ σ0 := by rw [hσ0]; exact ruT_ft _ _
  obtain ⟨s1, s2, s3, s4, s5, s6⟩ := ruT_at τ (ruN f i)
  rw [← hσ0] at s1 s2 s3 s4 s5 s6
  rw [← hRn] at s1 s3 s4 s5 s6
  refine OUTb.go (OUTb.cM (T1 := []) (S1 := [17, 18, 19, 20]) (k := 40) (w' := u0) (cm' := fun Q X => pC_X0_rule_62 p (wpC p (M + 39)) (fun w => Q () w) (fun x w => X x w) F x 0 u0) hR rb q1 q2 q3 (by unfold zm; rw [q4, q5]; omega) (by decide) (fun Q X hh => ?_) (fun r hr => by cases hr) (fun rb0 c0 hR0 => ?_))
  · refine ruW_run (d := M + 38) (m := m) (i := i) (w' := u0) rb.1 (by rw [hu0, hmu]; congr 1; by_cases z : i = 16 <;> simp [z] <;> omega) f1 (by omega) i1 f3 hm.2.2 hroom ?_
    rw [← hx]
    exact hh
  refine OUTb.tM (S1 := [27, 28, 31, 48, 49]) (τ' := σ0) (tm' := fun Q => pT_readRule_85 (wpT (e + 9)) (fun u => Q () u) f much (-4) 0 σ0) hR0 rb0 F0 (fun Q hh => sT_rule (e := e) f12 i2 i3 hσ0 (by rw [← hmu]; exact hh)) (fun rb1 hR1 => ?_)
  have lF := rb.1.le (r := F) (by rw [f1]; decide)
  have lr := rb.1.le (r := rr) (by rw [hr.2.1]; decide)
  have l45 := rb.1.le (r := fR w 45 F) (by rw [f4.1]; decide)
  have oF := q1.2.2.2.2 F lF (by simp; omega)
  have orr := q1.2.2.2.2 rr lr (by simp; have := hr.2.2.2; omega)
  have o45 := f4.fr rb.1 q1 (by simp; have := f4.2.2; omega)
  have p15 : fR u0 15 p = fR w 15 p := (q2 15 (by decide)).2
  have p16 : fR u0 16 p = fR w 16 p := (q2 16 (by decide)).2
  have NA0 : NA p u0 := by
    obtain ⟨⟨k1, k2, k3, k4⟩, k5, k6, k7, k8⟩ := nA
    have t15 := q1.2.2.2.1 (fR w 15 p) (rb.1.le (by rw [show tg w (fR w 15 p) = 103 from k1]; decide))
    have t16 := q1.2.2.2.1 (fR w 16 p) (rb.1.le (by rw [show tg w (fR w 16 p) = 102 from k5]; decide))
    unfold NA
    rw [p15, p16]
    exact ⟨⟨t15.1.trans k1, t15.2.trans k2, k3, k4⟩, t16.1.trans k5, t16.2.trans k6, k7, k8⟩
  have nk : nK σ0 = nK τ := by unfold nK; rw [(F0 10 (by decide)).1]
  have nr : nR σ0 = R := by unfold nR; rw [show tI σ0 27 = tI σ0 27 from rfl, s1]; rfl
  have nn : nN σ0 = 0 := by unfold nN; rw [show tI σ0 27 = tI σ0 27 from rfl, s1, show tA σ0 28 R = tA σ0 28 R from rfl, s3]; rfl
  have enp : np σ0 = np τ := np_ft F0 (by decide)
  have h00 : RU0 p f F m R x A u0 σ0 := ⟨⟨by rw [ob.etg oF]; exact f1, f2, by rw [ob.efI oF]; exact f3, by rw [ob.efR oF]; exact o45.1⟩, fun j hj => by rw [ob.efR oF, o45.2, (F0 44 (by decide)).2, nk]; exact hso j hj, ⟨by rw [(F0 43 (by decide)).2]; exact hm.1, hm.2.1, hm.2.2, f12, R192, nr⟩, ⟨t4, t5, by omega⟩, ⟨t1, by omega, v4⟩, NA0⟩
  have nm0 : NmR p u0 σ0 := by
    refine ⟨NA0, ?_, by rw [nr]; exact R192, ?_, by rw [nn]; decide, ?_, ?_, ⟨0, ?_, by decide, fun k _ => Nat.zero_testBit k⟩, fun j hj => by rw [nn] at hj; omega, fun j hj => by rw [nn] at hj; omega, fun j k hjk hk => by rw [nn] at hk; omega⟩
    · rw [nr]; exact s1
    · rw [nr, nn]; exact s3
    · rw [nn]; exact v9
    · exact v10.trans s2.symm
    · exact s2
  have K0 : KR p u0 σ0 := K.fr (T := []) (S := [17, 18, 19, 20]) rb.1 q1 q2 (fun r hr => by cases hr) (by decide) (by decide) F0 (by decide)
  have hPS : PS p (pI u0 20 p 0) (sI σ0 32 0) 0 := by
    have Fz : FT [32] σ0 (sI σ0 32 0) := (FT.refl _ _).ssI (by decide)
    have frz : Fr (p :: []) u0 (pI u0 20 p 0) := (Fr.refl _ _).spI (Or.inl (by simp))
    have pfz : PF [20] p u0 (pI u0 20 p 0) := (PF.refl _ _ _).spI (Or.inl (by decide))
    have Wz : WF p (pI u0 20 p 0) := q3.spI _ _ _
    have cz0 : CF p [] [20] [] u0 σ0 (pI u0 20 p 0) σ0 := ⟨frz, pfz, Wz, FT.refl _ _, Int.le_refl _, rfl⟩
    refine PS0 ((rb1.st frz pfz Wz (by decide) (fun r hr => by cases hr)).ft Fz (by decide)) (K0.fr (T := []) (S := [20]) q3 frz pfz (fun r hr => by cases hr) (by decide) (by decide) Fz (by decide)) ((nm0.on q3 cz0).ft Fz (by decide)).1 ?_ ?_ ?_ ?_ ?_
    · show tI σ0 16 = np σ0
      rw [(F0 16 (by decide)).1, enp]; exact h16
    · show (np σ0 : Int) ≤ tI σ0 5
      rw [(F0 5 (by decide)).1, enp]; exact h5
    · exact (tI_sI _ _ _ _).trans (if_pos rfl)
    · rw [fI_of _ _ _ _ (by decide)]; exact v11
    · exact fI_at _ _ _ _
  have hRL : RLI p f R A u0 σ0 0 u0 σ0 (fun _ => 0) (fun _ _ => False) (fun _ _ => 0) := ⟨⟨fun j hj => by omega, fun z => by omega, fun j hj => by omega, fun j hj => by omega, fun j hj => by omega⟩, fun j hj => by omega, nr, (BN.ft (FT.refl [] σ0) (by decide)).congr (fun x => ⟨fun y => y.elim, fun ⟨j, hj, _⟩ => by omega⟩), ⟨s5, fun z => by omega, fun y _ => ⟨rfl, rfl⟩⟩, fun j hj => by omega, UT.ft (FT.refl [] σ0) (by decide) 0, Nat.le_refl _, CF.refl q3 _ _ _⟩
  refine OUTb.cc (cm' := cmG (rlC p (M + 39) F x) (fun (_ : Unit → CW → Prop) (_ : Nat → CW → Prop) I => I 0 u0)) (fun Q X hh => hh) (OUTb.tt (tm' := tmL (rlT (e + 9) f much) (fun (_ : Unit → TW → Prop) I => I (-4) 0 σ0)) (fun Q hh => hh) ?_)
  have e46 : fI u0 46 F = m := by rw [ob.efI oF]; exact f3
  have e43 : tA σ0 43 f = m := by rw [(F0 43 (by decide)).2]; exact hm.1
  refine OUTb.kT (F' := fun Q X I => pC_X0_rule_94 p (wpC p (M + 39)) (fun w => Q () w) (fun x w => X x w) I F x ((0 : Nat) : Int) u0) (fun Q X I l k => l 0 u0 ⟨by rw [ob.etg oF, f1]; decide, br0 (by rw [e46]; omega) (br1 (Int.le_refl _) k)⟩) (OUTb.gT (G' := fun Q I => pT_readRule_133 (wpT (e + 9)) (fun w => Q () w) I f much (-4) ((0 : Nat) : Int) σ0) (fun Q I l k => l (-4) 0 σ0 ⟨hff, br1 ⟨by rw [e43]; omega, rb1.f0⟩ (br1 (Int.le_refl _) k)⟩) ?_)
  have inS' : ∀ g, g ∈ SPR → g ∈ SPU := by decide
  have names : fR u0 15 p ∈ [fR w 15 p, fR w 16 p, F, rr] ∧ fR u0 16 p ∈ [fR w 15 p, fR w 16 p, F, rr] := ⟨by rw [p15]; simp, by rw [p16]; simp⟩
  refine OUTb.le (a' := -8000) (t' := 500) ?_
  refine rl_pat (α := Unit) (e := e) (i := 0) (by omega : 39 ≤ M + 39) (by omega : cz w < A) h00 hPS rb1 (by rw [if_pos rfl]; exact v12) hm01 s2 hRL ⟨rfl, rfl⟩ (by omega) (by rw [if_pos rfl]) (hR1.le (by decide)) (fun u' σ' c' Di' Sn' hmu0 r1 r2 r3 r4 r5 => ?_) names (fun g hg => hg) inS' (by decide)
  have m0 := hmu0 rfl
  have i16 : i < 16 := by
    rcases Nat.lt_or_ge i 16 with y | y
    · exact y
    · rw [hmu, if_pos (by omega)] at m0; cases m0
  have eR : R = 16 * f + i := by rw [hRn]; unfold ruN; rw [if_neg (by omega)]
  have H0 : RuH p f i F x A rr (cz w + 2) u0 σ0 := ⟨⟨v1, by rw [v2, ← eR, s4]; exact rb.pl, v3, v5, v6, v8⟩, ⟨⟨t2, t3, by omega⟩, by omega, by omega⟩, ⟨by rw [ob.efI oF]; exact i1, by rw [ob.efR oF]; exact hr.1⟩, ⟨by rw [ob.etg orr]; exact hr.2.1, by rw [ob.eln orr]; exact hr.2.2.1, hr.2.2.2⟩, by rw [(F0 45 (by decide)).2]; exact i2⟩
  refine (rl_loop (b := cz w) (e := e) (by omega : 39 ≤ M + 39) (by omega) hm01 s2 (a := -8000) (t := 500) (N := fun (_ : Unit) (_ : Unit) w' τ' => RuE p f i F R x rr (np σ0) u0 σ0 w' τ') (rl_end (e := e) (b := cz w) (M := M) eR i16 q3 H0 h00 nn ⟨by omega, by omega, by simp, by simp⟩ (fun g hg => hg) inS') names (fun g hg => hg) inS' (by decide) (m - 1) 1 u' σ' c' Di' Sn' (by omega) (by decide) r1 r2 r3 r4 r5).nn (fun v v' w' τ' _ _ n => ⟨i16, ?_⟩)
  obtain ⟨n1, n2, n3, n4, ⟨n5, n6, n7⟩, ⟨n8, n9⟩, n10⟩ := n
  rw [enp] at n2
  refine ⟨n1, ⟨x, n2, n3.trans v7, fun j => by rw [n4, ob.eaR orr]⟩, ⟨n5, fun g hg => (n6 g hg).trans (ob.efI oF g), fun g => (n7 g).trans (ob.efR oF g)⟩, ⟨n8, fun y hy => (n9 y hy).trans ((F0 45 (by decide)).2 _)⟩, ?_⟩
  rw [← eR]
  refine URo.trans (fun f' i' h1 h2 => ?_) n10
  obtain g := s6 (16 * f' + i') h2
  refine ⟨by omega, fun h _ _ x _ => (F0 h (by simp only [List.mem_cons, List.not_mem_nil, or_false]; omega)).2 _, fun h hh => ?_, fun x _ => (F0 30 (by decide)).2 _, fun x _ => ⟨(F0 50 (by decide)).2 _, (F0 51 (by decide)).2 _⟩, fun x _ => (F0 52 (by decide)).2 _, fun x _ => ⟨(F0 59 (by decide)).2 _, (F0 60 (by decide)).2 _⟩, (F0 43 (by decide)).2 _, fun x _ => (F0 44 (by decide)).2 _⟩
  by_cases z28 : h = 28
  · subst z28; exact g.1
  · by_cases z48 : h = 48
    · subst z48; exact g.2.1
    · by_cases z49 : h = 49
      · subst z49; exact g.2.2
      · exact (F0 h (by simp only [List.mem_cons, List.not_mem_nil, or_false]; omega)).2 _
end ZRule14
