/-! a rule's end, both: behind its guard -/
section ZRule10
variable {p b e d : Nat} {w : CW} {τ : TW}
theorem R45.up {f i : Nat} (h : R45 τ) (e : tA τ 45 f = i) (hi : i < 16) : R45 (sA τ 45 f (w32 (tA τ 45 f + 1))) := by
  intro g hg
  rw [tA_sA, e, w32_k (by omega)]
  by_cases z : g = f
  · rw [if_pos ⟨rfl, by omega⟩]; omega
  · rw [if_neg (by omega)]; exact h g hg
theorem Dd.r45 {h pl : Int} (D : Dd h pl τ) : tI τ 7 ≠ 0 ∨ R45 τ := by
  rcases D with ⟨a, bb, c⟩ | ⟨y1, y2, y3, y4, y5⟩
  · left
    have : tI τ 7 = h := a
    omega
  · exact Or.inr y5
theorem RB.w45 {τ' : TW} (h : RB p w τ) (F : FT [45] τ τ') (hR : R45 τ') : RB p w τ' := by
  have g : ∀ f, f ≤ 8 → tI τ' f = tI τ f ∧ ∀ i, tA τ' f i = tA τ f i := fun f hf => F f (by simp; omega)
  have hb : bt τ' = bt τ := funext (bt_eq (g 1 (by decide)).1 (g 0 (by decide)).2)
  obtain ⟨W, L, T, R, g1, g2, g3⟩ := h
  refine ⟨W, L, ⟨by rw [(g 1 (by decide)).1]; exact T.1, by rw [(g 1 (by decide)).1]; exact T.2.1, fun k hk => by rw [(g 0 (by decide)).2]; exact T.2.2 k (by rw [← (g 1 (by decide)).1]; exact hk)⟩, ⟨R.1, R.2.1, by rw [(g 1 (by decide)).1]; exact R.2.2.1, fun k hk => by rw [(g 0 (by decide)).2]; exact R.2.2.2 k (by rw [← (g 1 (by decide)).1]; exact hk)⟩, ?_, ?_, by rw [(g 7 (by decide)).1]; exact g3.1, hR⟩
  · unfold TokT WdT at *
    rw [(g 3 (by decide)).1, (g 4 (by decide)).1, (g 5 (by decide)).1, (g 6 (by decide)).1, (g 1 (by decide)).1, hb]
    exact g1
  · unfold TokC at *
    rw [(g 3 (by decide)).1, (g 4 (by decide)).1, (g 5 (by decide)).1, (g 6 (by decide)).1]
    exact g2
theorem rl_159 {f F m i x A rr s67 g0 M kn b1 lo : Nat} {T S S' : List Nat} {u : CW} {σ : TW} (rb : RB p u σ) (K : KR p u σ) (nm : NmR p u σ) (h16 : tI σ 16 = np σ) (h5 : (np σ : Int) ≤ tI σ 5) (hRR : nR σ = 16 * f + i) (i16 : i < 16) (f12 : f < 12)
    (hx : tg u x = 5 ∧ p + 8 < x ∧ fI u 56 x = i ∧ fI u 57 x = tA σ 48 (16 * f + i : Nat) ∧ fI u 61 x = -1 ∧ fR u 62 x = 0 ∧ fR u 58 x = A ∧ fR u 67 x = s67) (hs : IArr p u s67 8) (hsx : s67 = x + 1 ∨ tg u (s67 - 1) ≠ 3) (hFF : tg u F = 4 ∧ p + 8 < F ∧ fI u 48 F = i ∧ fR u 47 F = rr) (hr : tg u rr = 117 ∧ ln u rr = 16 ∧ p + 8 < rr) (hA : PArr (p + 8) u A m) (hm : tA σ 43 f = m ∧ 1 ≤ m ∧ m ≤ 3) (hPT : PTS p f i m A u σ kn) (hkn : kn = nN σ) (hlo : (lo : Int) ≤ tA σ 47 (16 * f + i : Nat))
    (hg : (tA σ 53 (16 * f + i : Nat) = 0 ∧ g0 = 0) ∨ (GdR (wnB σ) p u σ g0 (16 * f + i) ∧ b1 < g0 ∧ b1 < fR u 78 g0 ∧ b1 < fR u 77 g0 ∧ b1 < fR u 76 g0)) (hb1 : x ≤ b1 ∧ s67 ≤ b1 ∧ rr ≤ b1 ∧ F ≤ b1 ∧ p ≤ b1) (h45 : tA σ 45 f = i) (hT : b < x ∧ b < s67 ∧ F ∈ T ∧ rr ∈ T) (hS : ∀ f, f ∈ SPC → f ∈ S) (hS' : ∀ f, f ∈ SPR → f ∈ S') (hR : Rm 3000 u σ) :
    OUTb p b T S S' (-10000) 500 (fun (_ : Unit) (_ : Unit) w' τ' => RuE p f i F (16 * f + i) x rr lo u σ w' τ') (fun Q X => pC_X0_rule_159 p (wpC p (M + 39)) (fun w => Q () w) (fun x w => X x w) F x g0 x u) (fun Q => wpT (e + 9) 20 [ai 58] σ (zqV (fun u58 => ((tI u58 7) = 0 → wpT (e + 9) 42 [] u58 (zqV (fun u64 => pT_readRule_299 (wpT (e + 9)) (fun w => Q () w) f u64) zno)) ∧ (¬ ((tI u58 7) = 0) → pT_readRule_299 (wpT (e + 9)) (fun w => Q () w) f u58)) zno)) u σ := by
  obtain ⟨x1, x2, x3, x4, x5, x6, x7, x8⟩ := hx
  obtain ⟨f1, f2, f3, f4⟩ := hFF
  have zx := rb.1.le (r := x) (by rw [x1]; decide)
  have hff : (0 : Int) ≤ (f : Int) ∧ (f : Int) < 12 := by omega
  have r27 : tI σ 27 = ((16 * f + i : Nat) : Int) := by rw [← hRR]; exact nm.2.1
  have inS : ∀ f, f ∈ [9, 10, 11, 12, 13, 14] → f ∈ S := fun f hf => hS f ((by decide : ∀ f, f ∈ [9, 10, 11, 12, 13, 14] → f ∈ SPC) f hf)
  have inS' : ∀ f, f ∈ [2, 3, 4, 5, 6, 7, 8, 45, 54, 55, 56, 57, 58, 59, 60] → f ∈ S' := fun f hf => hS' f ((by decide : ∀ f, f ∈ [2, 3, 4, 5, 6, 7, 8, 45, 54, 55, 56, 57, 58, 59, 60] → f ∈ SPR) f hf)
  have d45 : ∀ f, f ∈ [7, 8, 45, 54, 57, 58] → f ∈ S' := fun f hf => inS' f ((by decide : ∀ f, f ∈ [7, 8, 45, 54, 57, 58] → f ∈ [2, 3, 4, 5, 6, 7, 8, 45, 54, 55, 56, 57, 58, 59, 60]) f hf)
  refine OUTb.cw (T1 := [x]) (S1 := []) (k := 0) hR rb (pR u 59 x g0) ((Fr.refl _ _).spR (Or.inl (by simp))) ((PF.refl _ _ _).spR (Or.inr (by omega))) (rb.1.spR _ _ _) (Int.le_refl _) (by decide) (fun Q X h => bC_X0_rule_159 ⟨by rw [x1]; decide, h⟩) (fun r hr => by
    rw [List.mem_singleton.mp hr]
    exact ⟨Or.inr hT.1, by omega, Or.inr ⟨by rw [x1]; decide, zx⟩⟩) (fun u1 eu1 rb1 c1 hR1 => ?_) (fun f hf => by cases hf)
  refine OUTb.bVV hR1 (OUT.skip (d := M + 26) (e := e + 3) (T := []) (S := [9, 10, 11, 12, 13, 14]) (S' := [2, 3, 4, 5, 6, 7, 8]) (c := 58) rb1 (by decide) (fun f hf => hf) (fun f hf => hf) (hR1.le (by decide))) (fun Q X h => h) (fun Q h => h) (fun _ _ u2 σ2 rb2 _ c2 hR2 => ?_) (fun h pl σ2 D F2 => (rl_dead58 (e := e) f12 D (by rw [(F2 27 (by decide)).1, r27]; omega)).mono d45) (hS := inS) (hS' := fun f hf => inS' f ((by decide : ∀ f, f ∈ [2, 3, 4, 5, 6, 7, 8] → f ∈ [2, 3, 4, 5, 6, 7, 8, 45, 54, 55, 56, 57, 58, 59, 60]) f hf))
  refine OUTb.tt (fun Q h => br1 rb2.f0 h) ?_
  have F2 := c2.2.2.2.1
  have nm1 : NmR p u1 σ := nm.on rb.1 c1 (fun r hr => by rw [List.mem_singleton.mp hr]; exact x2)
  have nm2 : NmR p u2 σ2 := nm1.on rb1.1 c2
  have hz1 : cz u1 = cz u := by rw [eu1]; rfl
  have hz2 := c2.1.1
  have ox2 := c2.1.2.2.2.2 x (by omega) (by simp; omega)
  have tx2 : tg u2 x = 5 := by rw [ob.etg ox2, eu1]; exact x1
  have R2 : nR σ2 = 16 * f + i := by rw [nR_ft F2 (by decide)]; exact hRR
  have i61 : fI u2 61 x = -1 := by rw [ob.efI ox2, eu1]; exact x5
  have i62 : fR u2 62 x = 0 := by
    rw [ob.efR ox2, eu1]
    exact (fR_of _ _ _ _ (by decide)).trans x6
  have pz2 : p + 8 ≤ cz u2 := by omega
  refine OUTb.bVV hR2 (OUTb.go (pr_answer (b := cz u2) (d := M + 23) (e := e + 2) (x := x) (Nat.le_refl _) rb2 nm2 tx2 x2 pz2 i62 i61 (hR2.le (by decide)))) (fun Q X h => h) (fun Q h => h) (fun _ _ u3 σ3 rb3 n3 c3 hR3 => ?_) (fun h pl σ3 D F3 => (rl_dead299 (e := e) f12 D).mono (fun f hf => d45 f ((by decide : ∀ f, f ∈ [7, 8, 45] → f ∈ [7, 8, 45, 54, 57, 58]) f hf))) (hTT := fun r hr => by rw [List.mem_singleton.mp hr]; exact Or.inr hT.1) (hS := inS) (hS' := fun f hf => inS' f ((by decide : ∀ f, f ∈ [2, 3, 4, 5, 6, 7, 8, 54, 55, 56, 57, 58, 59, 60] → f ∈ [2, 3, 4, 5, 6, 7, 8, 45, 54, 55, 56, 57, 58, 59, 60]) f hf))
  obtain ⟨an3, ak3⟩ := n3
  rw [R2] at an3 ak3
  have F3 := c3.2.2.2.1
  refine OUTb.bVV hR3 (OUT.skip (d := M + 26) (e := e + 3) (T := []) (S := [9, 10, 11, 12, 13, 14]) (S' := [2, 3, 4, 5, 6, 7, 8]) (c := 59) rb3 (by decide) (fun f hf => hf) (fun f hf => hf) (hR3.le (by decide))) (fun Q X h => h) (fun Q h => bT_readRule_299 h) (fun _ _ u4 σ4 rb4 _ c4 hR4 => ?_) (fun h pl σ4 D F4 => DD.tw45 D (D.r45.imp id (fun y => R45.up (i := i) y (by rw [(F4 45 (by decide)).2, (F3 45 (by decide)).2, (F2 45 (by decide)).2]; exact h45) i16)) (fun Q k => ⟨hff, hff, k⟩) (fun u3 e3 D3 F3 => DD.ret (b := ()) D3 (fun Q k => k)) (d45 45 (by decide))) (hS := inS) (hS' := fun f hf => inS' f ((by decide : ∀ f, f ∈ [2, 3, 4, 5, 6, 7, 8] → f ∈ [2, 3, 4, 5, 6, 7, 8, 45, 54, 55, 56, 57, 58, 59, 60]) f hf))
  have F4 := c4.2.2.2.1
  have fr1 : Fr [p, x] u u1 := c1.1
  have frA : Fr [p, x] u u2 := fr1.trans (c2.1.mono (fun r hr => Or.inl (by rw [List.mem_singleton.mp hr]; simp)))
  have frB : Fr [p, x] u u3 := frA.trans c3.1
  have fr4 : Fr [p, x] u u4 := frB.trans (c4.1.mono (fun r hr => Or.inl (by rw [List.mem_singleton.mp hr]; simp)))
  have o4 : ∀ r, tg u r ≠ 0 → r ≠ p → r ≠ x → ob u4 r = ob u r := fun r h0 h1 h2 => fr4.2.2.2.2 r (rb.1.le h0) (by simp; exact ⟨h1, h2⟩)
  have hx5 : ∀ g, g < 60 ∨ 65 < g → g ≠ 59 → fI u4 g x = fI u g x ∧ fR u4 g x = fR u g x := by
    intro g hg h59
    have ox4 := c4.1.2.2.2.2 x (by have := c3.1.1; omega) (by simp; omega)
    rw [ob.efI ox4, ob.efR ox4, (ak3.1 g hg).1, (ak3.1 g hg).2, ob.efI ox2, ob.efR ox2, eu1]
    exact ⟨rfl, fR_of _ _ _ _ h59⟩
  have h59 : fR u4 59 x = g0 := by
    have ox4 := c4.1.2.2.2.2 x (by have := c3.1.1; omega) (by simp; omega)
    rw [ob.efR ox4, (ak3.1 59 (by decide)).2, ob.efR ox2, eu1]
    exact fR_at _ _ _ _
  have e67 : fR u4 67 x = s67 := (hx5 67 (by decide) (by decide)).2.trans x8
  have sx : s67 ≠ x := fun y => by have := hs.1; rw [y, x1] at this; cases this
  have sF : s67 ≠ F := fun y => by have := hs.1; rw [y, f1] at this; cases this
  have sr : s67 ≠ rr := fun y => by have := hs.1; rw [y, hr.1] at this; cases this
  have Fx : F ≠ x := fun y => by rw [y, x1] at f1; cases f1
  have rx : rr ≠ x := fun y => by have := hr.1; rw [y, x1] at this; cases this
  have rF : rr ≠ F := fun y => by have := hr.1; rw [y, f1] at this; cases this
  have oF := o4 F (by rw [f1]; decide) (by omega) Fx
  have orr := o4 rr (by rw [hr.1]; decide) (by have := hr.2.2; omega) rx
  have os := o4 s67 (by rw [hs.1]; decide) (by have := hs.2.2; omega) sx
  have pf4 : PF [9, 10, 11, 12, 13, 14] p u u4 := ((c1.2.1.mono (fun f hf => by cases hf)).trans c2.2.1).trans (c3.2.1.trans c4.2.1)
  have nm3 : NmR p u3 σ3 := nm2.on rb2.1 c3 (fun r hr => by rw [List.mem_singleton.mp hr]; exact x2)
  have nm4 : NmR p u4 σ4 := nm3.on rb3.1 c4
  have t16 : tg u4 (fR u4 16 p) = 102 ∧ ln u4 (fR u4 16 p) = 8 := ⟨nm4.1.2.1, nm4.1.2.2.1⟩
  have ts4 : tg u4 s67 = 102 ∧ ln u4 s67 = 8 := ⟨by rw [ob.etg os]; exact hs.1, by rw [ob.eln os]; exact hs.2.1⟩
  have tx4 : tg u4 x = 5 := (fr4.2.2.2.1 x zx).1.trans x1
  have tF4 : tg u4 F = 4 := by rw [ob.etg oF]; exact f1
  have tr4 : tg u4 rr = 117 ∧ ln u4 rr = 16 := ⟨by rw [ob.etg orr]; exact hr.1, by rw [ob.eln orr]; exact hr.2.1⟩
  have e47 : fR u4 47 F = rr := by rw [ob.efR oF]; exact f4
  have e48 : fI u4 48 F = i := by rw [ob.efI oF]; exact f3
  have lz : ∀ r, tg u r ≠ 0 → r ≤ cz u4 := fun r h => Nat.le_trans (rb.1.le h) fr4.1
  obtain ⟨a16, ha16⟩ : ∃ a, a = fR u4 16 p := ⟨_, rfl⟩
  rw [← ha16] at t16
  obtain ⟨u5, hu5⟩ : ∃ u5, u5 = pI (qR (qC u4 a16 0 s67 0 8) rr i x) 48 F (i + 1 : Nat) := ⟨_, rfl⟩
  have fr5 : Fr [p, s67, rr, F] u4 u5 := by
    rw [hu5]
    exact (((Fr.refl _ _).sqC (Or.inl (by simp))).sqR (Or.inl (by simp))).spI (Or.inl (by simp))
  have pf5 : PF [] p u4 u5 := by
    rw [hu5]
    refine PF.spI (PF.sqR ?_) (Or.inr (by omega))
    exact fun g _ => ⟨rfl, rfl⟩
  have W5 : WF p u5 := by
    rw [hu5]
    exact (((rb4.1.sqC _ _ _ _ _).sqR _ _ _).spI _ _ _)
  refine OUTb.cM (T1 := [s67, rr, F]) (S1 := []) (k := 0) (w' := u5) (cm' := fun Q X => Q () u5) hR4 rb4 fr5 pf5 W5 (by rw [hu5]; exact Int.le_refl _) (by decide) (fun Q X h => ?_) (fun r hrr => ?_) (fun rb5 c5 hR5 => ?_) (fun f hf => by cases hf)
  · rw [← ha16]
    refine ⟨by rw [tx4]; decide, ⟨⟨by decide, by decide, by decide, by rw [t16.2]; decide, by rw [e67, ts4.2]; decide⟩, Or.inl ⟨t16.1, by rw [e67]; exact ts4.1⟩⟩, fa ⟨?_, ?_, ⟨?_, ?_, ?_⟩, ?_, fa ⟨?_, ?_, fa ?_⟩⟩⟩
    · show hF 47 (tg u4 F) = true; rw [tF4]; decide
    · show hF 48 (tg u4 F) = true; rw [tF4]; decide
    · show 111 ≤ tg u4 (fR u4 47 F) ∧ tg u4 (fR u4 47 F) ≤ 119; rw [e47, tr4.1]; decide
    · show (0 : Int) ≤ fI u4 48 F; rw [e48]; omega
    · show fI u4 48 F < (ln u4 (fR u4 47 F) : Nat); rw [e48, e47, tr4.2]; omega
    · right; show zst (tg u4 (fR u4 47 F)) (tg u4 x) = true; rw [e47, tr4.1, tx4]; decide
    · show hF 48 (tg u4 F) = true; rw [tF4]; decide
    · show hP 48 (tg u4 F) = true; rw [tF4]; decide
    · show Q () (pI (qR (qC u4 a16 0 (fR u4 67 x) 0 8) (fR u4 47 F) (fI u4 48 F) x) 48 F (w32 (fI u4 48 F + 1)))
      rw [e67, e47, e48, w32_k (by omega), ← hu5]
      exact h
  · simp only [List.mem_cons, List.not_mem_nil, or_false] at hrr
    rcases hrr with hrr | hrr | hrr
    · rw [hrr]; exact ⟨Or.inr hT.2.1, by have := hs.2.2; omega, Or.inr ⟨by rw [ts4.1]; decide, lz _ (by rw [hs.1]; decide)⟩⟩
    · rw [hrr]; exact ⟨Or.inl hT.2.2.2, by have := hr.2.2; omega, Or.inr ⟨by rw [tr4.1]; decide, lz _ (by rw [hr.1]; decide)⟩⟩
    · rw [hrr]; exact ⟨Or.inl hT.2.2.1, by omega, Or.inr ⟨by rw [tF4]; decide, lz _ (by rw [f1]; decide)⟩⟩
  · have e45 : tA σ4 45 f = i := by rw [(F4 45 (by decide)).2, (F3 45 (by decide)).2, (F2 45 (by decide)).2]; exact h45
    obtain ⟨σ5, e5⟩ : ∃ σ5, σ5 = sA σ4 45 f (w32 (tA σ4 45 f + 1)) := ⟨_, rfl⟩
    have F5 : FT [45] σ4 σ5 := by rw [e5]; exact (FT.refl _ _).ssA (by decide)
    have rb6 : RB p u5 σ5 := rb5.w45 F5 (by rw [e5]; exact R45.up rb5.r45 e45 i16)
    refine OUTb.al (a1 := 0) (cm' := fun Q X => Q () u5) (tm' := fun Q => Q () σ5) hR5 (⟨Fr.refl _ _, PF.refl _ _ _, W5, F5, Int.le_of_eq (F5 5 (by decide)).1.symm, (F5 1 (by decide)).1⟩ : CF p [] [] [45] u5 σ4 u5 σ5) (by rw [pot_ft F5 (by decide) (by decide)]; omega) (fun Q X h => h) (fun Q h => ⟨hff, hff, fun u hu => by rw [hu, ← e5]; exact h⟩) (fun hR6 => ?_) (hS' := fun f hf => by rw [List.mem_singleton.mp hf]; exact d45 45 (by decide))
    refine OUTb.ret (v := ()) (v' := ()) rb6 ?_ (fun Q X h => h) (fun Q h => h)
    have F35 : FT [2, 3, 4, 5, 6, 7, 8, 45, 54, 55, 56, 57, 58, 59, 60] σ3 σ5 := (F4.mono (by decide)).trans (F5.mono (by decide))
    have F05 : FT [2, 3, 4, 5, 6, 7, 8, 45, 54, 55, 56, 57, 58, 59, 60] σ σ5 := ((F2.mono (by decide)).trans (F3.mono (by decide))).trans F35
    have frT : Fr [p, x, s67, rr, F] u u5 := (fr4.mono (fun r hr => Or.inl (by simp only [List.mem_cons, List.not_mem_nil, or_false] at hr ⊢; omega))).trans (fr5.mono (fun r hr => Or.inl (by simp only [List.mem_cons, List.not_mem_nil, or_false] at hr ⊢; omega)))
    have fr3T : Fr [p, s67, rr, F] u3 u5 := (c4.1.mono (fun r hr => Or.inl (by rw [List.mem_singleton.mp hr]; simp))).trans fr5
    have k3 : tg u (fR u 0 p) = 112 := K.1.1
    have k3l : fR u 0 p ≤ p + 8 ∧ p < fR u 0 p := ⟨K.1.2.2.2.1, K.1.2.2.1⟩
    have n0T : fR u 0 p ∉ [p, x, s67, rr, F] := by
      intro y
      have y2 := hs.2.2
      have y3 := hr.2.2
      simp only [List.mem_cons, List.not_mem_nil, or_false] at y
      omega
    have pfT : ∀ g, g ∉ [9, 10, 11, 12, 13, 14] → fI u5 g p = fI u g p ∧ fR u5 g p = fR u g p := fun g hg => ⟨((pf5 g (by simp)).1.trans (pf4 g hg).1), ((pf5 g (by simp)).2.trans (pf4 g hg).2)⟩
    have K5 : KR p u5 σ5 := by
      have hx67 : s67 = x + 1 ∨ tg u (s67 - 1) ≠ 3 := hsx
      refine KR.fr2 rb.1 K frT ⟨(pfT 0 (by decide)).2, (pfT 1 (by decide)).1⟩ (fun r hrr => ?_) F05 (by decide)
      simp only [List.mem_cons, List.not_mem_nil, or_false] at hrr
      rcases hrr with hrr | hrr | hrr | hrr | hrr
      · exact Or.inl ⟨by omega, fun y => by omega⟩
      · rw [hrr]; exact Or.inr (Or.inr ⟨x2, by rw [x1]; decide, fun y => by rw [x1] at y; cases y⟩)
      · rw [hrr]
        refine Or.inr (Or.inr ⟨hs.2.2, by rw [hs.1]; decide, fun _ => ?_⟩)
        rcases hx67 with y | y
        · rw [y, Nat.add_sub_cancel, x1]; decide
        · exact y
      · rw [hrr]; exact Or.inr (Or.inr ⟨hr.2.2, by rw [hr.1]; decide, fun y => by rw [hr.1] at y; cases y⟩)
      · rw [hrr]; exact Or.inr (Or.inr ⟨f2, by rw [f1]; decide, fun y => by rw [f1] at y; cases y⟩)
    have NA5 : NA p u5 := by
      obtain ⟨⟨k1, k2, k3, k4⟩, k5, k6, k7, k8⟩ := nm.1
      have t15 := frT.2.2.2.1 (fR u 15 p) (rb.1.le (by rw [show tg u (fR u 15 p) = 103 from k1]; decide))
      have t16 := frT.2.2.2.1 (fR u 16 p) (rb.1.le (by rw [show tg u (fR u 16 p) = 102 from k5]; decide))
      have p15 := (pfT 15 (by decide)).2
      have p16 := (pfT 16 (by decide)).2
      unfold NA
      rw [p15, p16]
      exact ⟨⟨t15.1.trans k1, t15.2.trans k2, k3, k4⟩, t16.1.trans k5, t16.2.trans k6, k7, k8⟩
    have hkd : KdK p u u5 σ σ5 := ⟨by unfold nK; rw [(F05 10 (by decide)).1]; exact Nat.le_refl _, fun k _ => ⟨kd_fr2 K.1 frT (pfT 0 (by decide)).2 n0T k, (F05 14 (by decide)).2 _, fun _ _ => (F05 15 (by decide)).2 _⟩⟩
    have kn8 : kn ≤ 8 := by rw [hkn]; exact nm.2.2.2.2.1
    have PT5 := hPT.fr kn8 hA rb.1 frT (fun r hrr => by
      simp only [List.mem_cons, List.not_mem_nil, or_false] at hrr
      rcases hrr with hrr | hrr | hrr | hrr | hrr
      · left; omega
      · right; right; rw [hrr, x1]; unfold ptg; omega
      · right; right; rw [hrr, hs.1]; unfold ptg; omega
      · right; right; rw [hrr, hr.1]; unfold ptg; omega
      · right; right; rw [hrr, f1]; unfold ptg; omega) hkd F05 (by decide)
    have fx5 : ∀ g, fI u5 g x = fI u4 g x ∧ fR u5 g x = fR u4 g x := fun g => by
      rw [hu5]
      refine ⟨?_, rfl⟩
      show fI (pI (qR (qC u4 a16 0 s67 0 8) rr i x) 48 F (i + 1 : Nat)) g x = _
      rw [fI_pI, if_neg (fun y => Fx y.2.symm)]
      rfl
    have tx5 : tg u5 x = 5 := (fr5.2.2.2.1 x (lz x (by rw [x1]; decide))).1.trans tx4
    have e58 : fR u5 58 x = A := by rw [(fx5 58).2, (hx5 58 (by decide) (by decide)).2]; exact x7
    have e67' : fR u5 67 x = s67 := by rw [(fx5 67).2]; exact e67
    have e59' : fR u5 59 x = g0 := by rw [(fx5 59).2]; exact h59
    have aS : ∀ n : Nat, n < 8 → aI u5 s67 n = aI u4 a16 n := fun n hn => by
      rw [hu5]
      show aI (qC u4 a16 0 s67 0 8) s67 n = _
      rw [aI_qC, if_pos ⟨rfl, by omega, by omega⟩]
      congr 1
      omega
    have R4 : nR σ4 = 16 * f + i := by rw [nR_ft F4 (by decide), nR_ft F3 (by decide)]; exact R2
    have n4 : nN σ4 = kn := by rw [nN_ft F4 (by decide) (by decide), nN_ft F3 (by decide) (by decide), nN_ft F2 (by decide) (by decide)]; exact hkn.symm
    have eSn : ∀ n, SnT σ5 (16 * f + i) n = SnT σ (16 * f + i) n := fun n => (F05 30 (by decide)).2 _
    have sg4 : SnR σ2 = SnT σ5 (16 * f + i) := funext fun n => by
      unfold SnR SnT
      rw [R2, (F05 30 (by decide)).2, (F2 30 (by decide)).2]
    refine ⟨⟨rb6, K5, NA5, ?_, ?_⟩, ⟨⟨tx5, x2, ?_, ?_⟩, kn, ⟨?_, kn8, ⟨?_, ?_, ?_⟩, fun n hn => ?_⟩, ?_, ?_, ?_⟩, ?_, fun j => ?_, ⟨?_, fun g hg => ?_, fun g => ?_⟩, ⟨?_, fun y hy => ?_⟩, ?_⟩
    · rw [(F05 16 (by decide)).1, np_ft F05 (by decide)]; exact h16
    · rw [np_ft F05 (by decide)]
      have y1 := c2.2.2.2.2.1
      have y2 := c3.2.2.2.2.1
      have y3 := c4.2.2.2.2.1
      have y4 : tI σ 5 = tI σ 5 := rfl
      have y5 : tI σ4 5 = tI σ4 5 := rfl
      have y6 : tI σ5 5 = tI σ4 5 := (F5 5 (by decide)).1
      omega
    · rw [(fx5 56).1, (hx5 56 (by decide) (by decide)).1]; exact x3
    · rw [(fx5 57).1, (hx5 57 (by decide) (by decide)).1, (F05 48 (by decide)).2]; exact x4
    · rw [(F05 28 (by decide)).2, hkn, ← hRR]
      exact nm.2.2.2.1
    · rw [e67', (fr5.2.2.2.1 s67 (lz _ (by rw [hs.1]; decide))).1]; exact ts4.1
    · rw [e67', (fr5.2.2.2.1 s67 (lz _ (by rw [hs.1]; decide))).2]; exact ts4.2
    · rw [e67']; exact hs.2.2
    · rw [e67', aS n (by omega), ha16]
      have q := nm4.2.2.2.2.2.2.2.2.2.1 n (by rw [n4]; exact hn)
      have q' : aI u4 (fR u4 16 p) n = tA σ4 30 (8 * nR σ4 + n : Nat) := q
      rw [q', R4]
      unfold SnT
      exact ((F5 30 (by decide)).2 _).symm
    · obtain ⟨⟨c, Di, y1, y2, y3, y4, y5⟩, yA⟩ := PT5
      exact ⟨m, np σ5, c, Di, ⟨by rw [(F05 43 (by decide)).2]; exact hm.1, hm.2.1, hm.2.2, by rw [e58]; exact yA, ⟨by have q := y1; rw [(F05 47 (by decide)).2] at q; omega, Nat.le_refl _, Nat.le_refl _⟩, y1⟩, by rw [e58]; exact y2, y3, y4, y5⟩
    · rw [e59', (F05 53 (by decide)).2]
      rcases hg with hg | ⟨hg, g1, g2, g3, g4⟩
      · exact Or.inl hg
      · right
        refine hg.fr rb.1 frT ?_ (fun n hn hB => ⟨?_, ?_⟩) (fun n _ => ⟨(F05 50 (by decide)).2 _, (F05 51 (by decide)).2 _⟩) (fun n _ => (F05 52 (by decide)).2 _) ((F05 53 (by decide)).2 _)
        · refine ⟨?_, ?_, ?_, ?_⟩ <;> (intro y; simp only [List.mem_cons, List.not_mem_nil, or_false] at y; omega)
        · rw [hkn]; exact nm.bit0 hB.1 hn
        · have q := hB.2
          rw [hRR] at q
          rw [eSn]; exact q
    · have pz : p + 8 ≤ cz u2 := pz2
      have G35 : FT [2, 3, 4, 5, 6, 7, 8, 45] σ3 σ5 := (F4.mono (by decide)).trans (F5.mono (by decide))
      have z23 : cz u ≤ cz u2 := by omega
      have tx3 : tg u3 x = 5 := (frB.2.2.2.1 x zx).1.trans x1
      have l67 := rb.1.le (r := s67) (by rw [hs.1]; decide)
      have lrr := rb.1.le (r := rr) (by rw [hr.1]; decide)
      have lF := rb.1.le (r := F) (by rw [f1]; decide)
      refine AnR.fr an3 rb3.1 fr3T (fun y => ?_) (by rw [tx3]; decide) (fun a h1 h2 h3 y => ?_) pz (fun n hn hB => ⟨?_, by rw [sg4]⟩) (fun g hg => (G35 g (by simp only [List.mem_cons, List.not_mem_nil, or_false]; omega)).2 _) (fun n _ => ⟨(G35 59 (by decide)).2 _, (G35 60 (by decide)).2 _⟩)
      · simp only [List.mem_cons, List.not_mem_nil, or_false] at y
        rcases y with y | y | y | y
        · omega
        · exact sx y.symm
        · exact rx y.symm
        · exact Fx y.symm
      · simp only [List.mem_cons, List.not_mem_nil, or_false] at y
        omega
      · rw [hkn, ← nN_ft F2 (by decide) (by decide)]; exact hB.1
    · rw [(fx5 66).2, (hx5 66 (by decide) (by decide)).2]
    · rw [hu5]
      show aR (qR (qC u4 a16 0 s67 0 8) rr i x) rr j = _
      rw [aR_qR]
      by_cases z : j = i
      · rw [if_pos ⟨rfl, by omega⟩, if_pos z]
      · rw [if_neg (by omega), if_neg z, aR_qC, if_neg (fun y => sr y.1.symm)]
        exact ob.eaR orr j
    · rw [hu5]; exact fI_at _ _ _ _
    · rw [hu5, fI_of _ _ _ _ hg]; exact ob.efI oF g
    · rw [hu5]; exact ob.efR oF g
    · rw [e5, tA_sA, if_pos ⟨rfl, rfl⟩, e45]; exact w32_k (by omega)
    · rw [e5, tA_sA, if_neg (by omega), (F4 45 (by decide)).2, (F3 45 (by decide)).2, (F2 45 (by decide)).2]
    · exact (((URo.ft F2 (by decide) _).trans (URo.answer F3 (by decide) ak3)).trans (URo.ft F4 (by decide) _)).trans (URo.ft F5 (by decide) _)
end ZRule10
