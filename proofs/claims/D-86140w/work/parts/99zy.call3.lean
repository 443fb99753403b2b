/-! the loop over a call's names, both -/
section ZCall3
variable {p b e d : Nat} {w : CW} {τ : TW}
theorem HL.add {w' : CW} {τ' : TW} {ha wh R i n : Nat} {pl : Int} (h : HL w τ ha wh R i) (ea : ∀ j : Nat, aI w' ha j = if j = i then (n : Int) else aI w ha j) (eb : ∀ j : Nat, aI w' wh j = if j = i then pl else aI w wh j) (en : nN τ' = nN τ) (e31 : tI τ' 31 = tI τ 31) (hn : n < nN τ) (hbit : bit (tI τ 31) n = 1)
    (h3 : i < 3 → tA τ' 59 (3 * R + i : Nat) = n ∧ tA τ' 60 (3 * R + i : Nat) = pl) (ho : ∀ y : Nat, y ≠ 3 * R + i ∨ 3 ≤ i → tA τ' 59 y = tA τ 59 y ∧ tA τ' 60 y = tA τ 60 y) : HL w' τ' ha wh R (i + 1) := by
  intro j hj
  rw [ea, eb, en, e31]
  by_cases z : j = i
  · subst z
    rw [if_pos rfl, if_pos rfl]
    exact ⟨n, rfl, hn, hbit, h3⟩
  · rw [if_neg z, if_neg z]
    obtain ⟨k, k1, k2, k3, k4⟩ := h j (by omega)
    refine ⟨k, k1, k2, k3, fun hj3 => ?_⟩
    obtain ⟨o1, o2⟩ := ho (3 * R + j) (Or.inl (by omega))
    rw [o1, o2]
    exact k4 hj3
theorem HL.keep {w' : CW} {τ' : TW} {ha wh R i : Nat} (h : HL w τ ha wh R i) (ea : ∀ j, aI w' ha j = aI w ha j) (eb : ∀ j, aI w' wh j = aI w wh j) (en : nN τ' = nN τ) (e31 : tI τ' 31 = tI τ 31) (ho : ∀ y, tA τ' 59 y = tA τ 59 y ∧ tA τ' 60 y = tA τ 60 y) : HL w' τ' ha wh R i := by
  intro j hj
  rw [ea, eb, en, e31, (ho _).1, (ho _).2]
  exact h j hj
theorem an_loop {x ha wh R : Nat} (hx : p + 8 < x) (hab : ha ≠ wh) (bA : b < ha) (bB : b < wh) : ∀ (m i : Nat) (u : CW) (σ : TW), (tI σ 1 - tI σ 5).toNat ≤ m → RB p u σ → NmR p u σ → nR σ = R → tg u x = 5 → IArr p u ha 800 → IArr p u wh 800 → (2 * i + 2 : Int) ≤ tI σ 5 → tA σ 58 R = i → HL u σ ha wh R i → Rm 4000 u σ →
    OUTb p b [x] [9, 10, 11, 12, 13, 14] [2, 3, 4, 5, 6, 7, 8, 58, 59, 60] 2000 2100 (fun (_ : Unit) (_ : Unit) w' τ' => CL p b w' τ' x R ∧ (∀ f, f ≠ 62 → f ≠ 65 → fR w' f x = fR u f x) ∧ (∀ f, fI w' f x = fI u f x) ∧ (∀ f, f = 54 ∨ f = 55 ∨ f = 56 ∨ f = 57 → ∀ y, tA τ' f y = tA σ f y) ∧ (∀ y : Nat, y ≠ R → tA τ' 58 y = tA σ 58 y) ∧ ∀ y : Nat, y < 3 * R ∨ 3 * R + 3 ≤ y → tA τ' 59 y = tA σ 59 y ∧ tA τ' 60 y = tA σ 60 y) (cmG (anLC p (d + 15) x ha wh) (fun Q X I => anC p (wpC p (d + 15)) (fun w => Q () w) (fun x w => X x w) x ha wh I i u)) (tmL (anLT (e + 6)) (fun _ I => I 1 σ)) u σ := by
  intro m
  induction m using Nat.strongRecOn with
  | ind m ih =>
  intro i u σ hm rb nm eR tx hA hB h2 e58 hl hR
  have ty : fI u 10 p = tI σ 3 := rb.ty
  have hrg := rb.rg
  have q5 : tI σ 5 = tI σ 5 := rfl
  have q1 : tI σ 1 = tI σ 1 := rfl
  have f0 : tI σ 7 = 0 := rb.f0
  have r27 : tI σ 27 = R := by rw [← eR]; exact nm.2.1
  have r192 : R < 192 := by rw [← eR]; exact nm.2.2.1
  by_cases h1 : tI σ 3 = 1
  · -- a name
    have hlt := rb.2.2.2.2.1.2.2.2.2.2.1 (by show tI σ 3 ≠ 0; omega)
    have hi : i < 799 := by omega
    refine OUTb.gB hR (pr_known0 (d := d + 10) (e := e + 3) (T := []) (S := []) (S' := [7, 8]) rb nm h1 (fun f hf => hf) (hR.le (by decide))) (fun Q X I l k => anC_i (fa (sC_want (v := if fI u 10 p = 1 then 1 else 0) (by rw [if_pos (ty.trans h1)]; decide) k))) (fun Q I b1 σ1 l run k => l 1 σ (br1 ⟨by decide, f0⟩ (br1 h1 (run (fun v20 u19 => anT (wpT (e + 6)) (fun w => Q () w) I v20 u19) k)))) (fun v v' u1 σ1 rb1 n1 c1 hR1 => ?_) (fun h pl v' σ1 D F => ?_)
    · obtain ⟨n1, n2, n3, n, n4, n5, n6⟩ := n1
      subst n2
      subst n3
      subst n1
      subst n4
      obtain ⟨σ3, F3, g1, g2, g3, g4, run3⟩ := an_note (e := e) (n := (n : Int)) r27 r192 e58 (by omega)
      have zA := rb1.1.le (r := ha) (by rw [hA.1]; decide)
      have zB := rb1.1.le (r := wh) (by rw [hB.1]; decide)
      have pA := hA.2.2
      have pB := hB.2.2
      refine OUTb.tM (τ' := σ3) (tm' := tmL (anLT (e + 6)) (fun Q I => wpT (e + 6) 4 [] σ3 (zqV (fun u29 => pT_readAnswer_319 (wpT (e + 6)) (fun w => Q () w) I u29) zno))) hR1 rb1 F3 (fun Q h I l => run3 _ _ (br1 ((F3 7 (by decide)).1.trans f0) (h I l))) (fun rb3 hR3 => ?_)
      obtain ⟨u4, hu4⟩ : ∃ u4, u4 = qI (qI u1 ha i n) wh i (fI u1 11 p) := ⟨_, rfl⟩
      refine OUTb.kC (T1 := [ha, wh]) (S1 := []) (k := 0) (F2 := fun v Q X I => wpC p (d + 15) 4 [ar p] v (zqV (fun u27 => wpC p (d + 15) 16 [ar p, ai 44] u27 (zqI (fun v30 u29 => (v30 = 0 → pC_X0_answer_125 p (wpC p (d + 15)) (fun w => Q () w) (fun x w => X x w) x ha wh (w32 ((i : Int) + 1)) u29) ∧ (¬ (v30 = 0) → I (w32 ((i : Int) + 1)) u29)) zno)) (fun x50 u51 => X x50 u51))) hR3 rb3 u4 ?_ ?_ ?_ (by rw [hu4]; exact Int.le_refl _) (by decide) (fun Q X I l k => ⟨⟨hA.1, by omega, by rw [hA.2.1]; omega⟩, fa ⟨⟨hB.1, by omega, ?_⟩, fa (fa ?_)⟩⟩) (fun r hr => ?_) (fun u5 hu5 rb5 c5 hR5 => ?_)
      · rw [hu4]; exact ((Fr.refl _ _).sqI (Or.inl (by simp))).sqI (Or.inl (by simp))
      · rw [hu4]; exact ((PF.refl _ _ _).sqI).sqI
      · rw [hu4]; exact (rb1.1.sqI _ _ _).sqI _ _ _
      · show (i : Int) < (ln u1 wh : Nat)
        rw [hB.2.1]; omega
      · exact k _ hu4.symm
      · simp only [List.mem_cons, List.not_mem_nil, or_false] at hr
        rcases hr with hr | hr
        · rw [hr]; exact ⟨Or.inr bA, by omega, Or.inr ⟨by rw [hA.1]; decide, zA⟩⟩
        · rw [hr]; exact ⟨Or.inr bB, by omega, Or.inr ⟨by rw [hB.1]; decide, zB⟩⟩
      have eT : tg u5 x = 5 ∧ IArr p u5 ha 800 ∧ IArr p u5 wh 800 := by rw [hu5, hu4]; exact ⟨tx, hA, hB⟩
      have ea : ∀ j : Nat, aI u5 ha j = if j = i then (n : Int) else aI u1 ha j := fun j => by
        rw [hu5, hu4, aI_qI, if_neg (fun y => hab y.1), aI_qI]
        by_cases y : j = i
        · rw [if_pos ⟨rfl, by omega⟩, if_pos y]
        · rw [if_neg (by omega), if_neg y]
      have eb : ∀ j : Nat, aI u5 wh j = if j = i then tI σ1 5 else aI u1 wh j := fun j => by
        rw [hu5, hu4, aI_qI]
        by_cases y : j = i
        · rw [if_pos ⟨rfl, by omega⟩, if_pos y]; exact rb1.pl
        · rw [if_neg (by omega), if_neg y, aI_qI, if_neg (fun y => hab y.1.symm)]
      have s3 : tI σ3 3 = 1 := (F3 3 (by decide)).1.trans h1
      have nm5 : NmR p u5 σ3 := (nm.ft F3 (by decide)).1.on rb3.1 c5 (fun r hr => by
        simp only [List.mem_cons, List.not_mem_nil, or_false] at hr
        rcases hr with hr | hr <;> (rw [hr]; assumption))
      have en3 : nN σ3 = nN σ1 := (nm.ft F3 (by decide)).2.2.1
      have hl5 : HL u5 σ3 ha wh R (i + 1) := hl.add ea eb en3 (F3 31 (by decide)).1 n5 n6 g3 g4
      clear ea eb
      refine OUTb.gV hR5 (OUT.nx1 (d := d + 3) (e := e + 2) rb5 (by omega) (hR5.le (by decide))) (fun Q X I l k => k) (fun Q I l k => k) (fun _ _ u6 σ6 rb6 n6 c6 hR6 => ?_) (fun h pl σ6 D F => ?_)
      · have o6 : ∀ r, r ≤ cz u5 → r ≠ p → ob u6 r = ob u5 r := fun r hr hp => c6.1.2.2.2.2 r hr (by simp; exact hp)
        have zx := rb5.1.le (r := x) (by rw [eT.1]; decide)
        have zA5 := rb5.1.le (r := ha) (by rw [eT.2.1.1]; decide)
        have zB5 := rb5.1.le (r := wh) (by rw [eT.2.2.1]; decide)
        have ox := o6 x zx (by omega)
        have oA := o6 ha zA5 (by omega)
        have oB := o6 wh zB5 (by omega)
        have F6 := c6.2.2.2.1
        have tx6 : tg u6 x = 5 := by rw [ob.etg ox]; exact eT.1
        have hA6 : IArr p u6 ha 800 := ⟨by rw [ob.etg oA]; exact eT.2.1.1, by rw [ob.eln oA]; exact eT.2.1.2.1, hA.2.2⟩
        have hB6 : IArr p u6 wh 800 := ⟨by rw [ob.etg oB]; exact eT.2.2.1, by rw [ob.eln oB]; exact eT.2.2.2.1, hB.2.2⟩
        have nm6 := nm5.on rb5.1 c6
        have hl6 : HL u6 σ6 ha wh R (i + 1) := hl5.keep (fun j => ob.eaI oA j) (fun j => ob.eaI oB j) (nN_ft F6 (by decide) (by decide)) (F6 31 (by decide)).1 (fun y => ⟨(F6 59 (by decide)).2 _, (F6 60 (by decide)).2 _⟩)
        have e586 : tA σ6 58 R = (i + 1 : Nat) := by rw [(F6 58 (by decide)).2]; exact g1
        have p6 : tI σ3 5 = tI σ1 5 := (F3 5 (by decide)).1
        have k6 : tI σ6 1 = tI σ1 1 := (F6 1 (by decide)).1.trans (F3 1 (by decide)).1
        have fx6 : (∀ f, fR u6 f x = fR u1 f x) ∧ ∀ f, fI u6 f x = fI u1 f x := ⟨fun f => by rw [ob.efR ox, hu5, hu4]; rfl, fun f => by rw [ob.efI ox, hu5, hu4]; rfl⟩
        have t54 : ∀ f, f = 54 ∨ f = 55 ∨ f = 56 ∨ f = 57 → ∀ y, tA σ6 f y = tA σ1 f y := fun f hf y => by
          rw [(F6 f (by simp only [List.mem_cons, List.not_mem_nil, or_false]; omega)).2, (F3 f (by simp only [List.mem_cons, List.not_mem_nil, or_false]; omega)).2]
        have t58 : ∀ y : Nat, y ≠ R → tA σ6 58 y = tA σ1 58 y := fun y hy => by rw [(F6 58 (by decide)).2]; exact g2 y hy
        have t59 : ∀ y : Nat, y < 3 * R ∨ 3 * R + 3 ≤ y → tA σ6 59 y = tA σ1 59 y ∧ tA σ6 60 y = tA σ1 60 y := fun y hy => by
          rw [(F6 59 (by decide)).2, (F6 60 (by decide)).2]
          exact g4 y (by omega)
        have ei : w32 ((i : Int) + 1) = ((i + 1 : Nat) : Int) := w32_k (by omega)
        have wk : ∀ {w' : CW} {τ' : TW}, (CL p b w' τ' x R ∧ (∀ f, f ≠ 62 → f ≠ 65 → fR w' f x = fR u6 f x) ∧ (∀ f, fI w' f x = fI u6 f x) ∧ (∀ f, f = 54 ∨ f = 55 ∨ f = 56 ∨ f = 57 → ∀ y, tA τ' f y = tA σ6 f y) ∧ (∀ y : Nat, y ≠ R → tA τ' 58 y = tA σ6 58 y) ∧ ∀ y : Nat, y < 3 * R ∨ 3 * R + 3 ≤ y → tA τ' 59 y = tA σ6 59 y ∧ tA τ' 60 y = tA σ6 60 y) → (CL p b w' τ' x R ∧ (∀ f, f ≠ 62 → f ≠ 65 → fR w' f x = fR u1 f x) ∧ (∀ f, fI w' f x = fI u1 f x) ∧ (∀ f, f = 54 ∨ f = 55 ∨ f = 56 ∨ f = 57 → ∀ y, tA τ' f y = tA σ1 f y) ∧ (∀ y : Nat, y ≠ R → tA τ' 58 y = tA σ1 58 y) ∧ ∀ y : Nat, y < 3 * R ∨ 3 * R + 3 ≤ y → tA τ' 59 y = tA σ1 59 y ∧ tA τ' 60 y = tA σ1 60 y) := by
          rintro w' τ' ⟨a1, a2, a3, a4, a5, a6⟩
          exact ⟨a1, fun f x1 x2 => (a2 f x1 x2).trans (fx6.1 f), fun f => (a3 f).trans (fx6.2 f), fun f hf y => (a4 f hf y).trans (t54 f hf y), fun y hy => (a5 y hy).trans (t58 y hy), fun y hy => ⟨(a6 y hy).1.trans (t59 y hy).1, (a6 y hy).2.trans (t59 y hy).2⟩⟩
        by_cases z : ff_isSign 44 σ6 = 0
        · -- the end
          refine OUTb.kT (F' := fun Q X _ => pC_X0_answer_125 p (wpC p (d + 15)) (fun w => Q () w) (fun x w => X x w) x ha wh ((i + 1 : Nat) : Int) u6) (fun Q X I l k => sR_isSign (d := d + 14) rb6 (by decide) (br1 z (by rw [ei]; exact k))) (OUTb.gT (G' := fun Q _ => wpT (e + 6) 20 [ai 41] σ6 (zqV (fun u => Q () u) zno)) (fun Q I l k => bT_readAnswer_319 (sT_takesNo (d := e + 4) z _ (l 0 σ6 (br0 (fun y => y.1 rfl) (bT_readAnswer_329 k))))) ?_)
          refine OUTb.kO (OUTb.gO (OUTb.hb (fun hb => ?_)))
          have q := an_end (d := d) (e := e) (b := b) hb rb6 tx6 hx hA6 hB6 (by omega : 1 ≤ i + 1) (by omega) e586 hl6 (hR6.le (by decide))
          refine OUTb.le ?_ (a' := 2000) (t' := 2100)
          intro hb
          obtain ⟨w', τ', b', c, run, g⟩ := q hb
          refine ⟨w', τ', b', c, run, ?_⟩
          rcases g with ⟨v, a1, a2, ⟨a3, a4, a5, a6⟩, a7⟩ | g
          · exact Or.inl ⟨v, a1, a2, wk ⟨a3, a4, a5, fun f hf => a6 f (by omega), fun y _ => a6 58 (by decide) y, fun y _ => ⟨a6 59 (by decide) y, a6 60 (by decide) y⟩⟩, a7⟩
          · exact Or.inr g
        · -- one more
          have s6 : tI σ6 3 ≠ 0 := by
            intro y
            exact z (ff_s0 (fun q => by omega))
          refine OUTb.kT (F' := fun Q X I => wpC p (d + 15) 4 [ar p] u6 (zqV (fun u15 => anC p (wpC p (d + 15)) (fun w => Q () w) (fun x w => X x w) x ha wh I ((i + 1 : Nat) : Int) u15) (fun x58 u59 => X x58 u59))) (fun Q X I l k => sR_isSign (d := d + 14) rb6 (by decide) (br0 z (by rw [ei]; exact l _ _ k))) (OUTb.gT (G' := fun Q I => wpT (e + 5) 4 [] σ6 (zqV (fun u => ((1 : Int) = 0 ∨ (1 : Int) = 1) ∧ I 1 u) zno)) (fun Q I l k => bT_readAnswer_319 (sT_takes1 (d := e + 1) rb6.f0 z k)) ?_)
          refine OUTb.gV hR6 (OUT.nx1 (d := d + 3) (e := e + 1) rb6 s6 (hR6.le (by decide))) (fun Q X I l k => k) (fun Q I l k => k) (fun _ _ u7 σ7 rb7 n7 c7 hR7 => ?_) (fun h pl σ7 D F => ?_)
          · have o7 : ∀ r, r ≤ cz u6 → r ≠ p → ob u7 r = ob u6 r := fun r hr hp => c7.1.2.2.2.2 r hr (by simp; exact hp)
            have hz6 := c6.1.1
            have ox7 := o7 x (by omega) (by omega)
            have oA7 := o7 ha (by omega) (by omega)
            have oB7 := o7 wh (by omega) (by omega)
            have F7 := c7.2.2.2.1
            have k7 : tI σ7 1 = tI σ6 1 := (F7 1 (by decide)).1
            refine OUTb.gT (G' := fun _ I => I 1 σ7) (fun Q I l k => ⟨Or.inr rfl, k⟩) ?_
            have q := ih ((tI σ7 1 - tI σ7 5).toNat) (by omega) (i + 1) u7 σ7 (Nat.le_refl _) rb7 (nm6.on rb6.1 c7) (by rw [nR_ft F7 (by decide), nR_ft F6 (by decide), nR_ft F3 (by decide)]; exact eR) (by rw [ob.etg ox7]; exact tx6) ⟨by rw [ob.etg oA7]; exact hA6.1, by rw [ob.eln oA7]; exact hA6.2.1, hA.2.2⟩ ⟨by rw [ob.etg oB7]; exact hB6.1, by rw [ob.eln oB7]; exact hB6.2.1, hB.2.2⟩ (by omega) (by rw [(F7 58 (by decide)).2]; exact e586) (hl6.keep (fun j => ob.eaI oA7 j) (fun j => ob.eaI oB7 j) (nN_ft F7 (by decide) (by decide)) (F7 31 (by decide)).1 (fun y => ⟨(F7 59 (by decide)).2 _, (F7 60 (by decide)).2 _⟩)) (hR7.le (by decide))
            refine OUTb.le (a' := 2000) (t' := 2100) ?_
            intro hb
            obtain ⟨w', τ', b', c, run, g⟩ := q hb
            refine ⟨w', τ', b', c, run, ?_⟩
            rcases g with ⟨v, a1, a2, ⟨a3, a4, a5, a6, a7, a8⟩, a9⟩ | g
            · exact Or.inl ⟨v, a1, a2, wk ⟨a3, fun f x1 x2 => by rw [a4 f x1 x2, ob.efR ox7], fun f => by rw [a5, ob.efI ox7], fun f hf y => by rw [a6 f hf, (F7 f (by simp only [List.mem_cons, List.not_mem_nil, or_false]; omega)).2], fun y hy => by rw [a7 y hy, (F7 58 (by decide)).2], fun y hy => by rw [(a8 y hy).1, (a8 y hy).2, (F7 59 (by decide)).2, (F7 60 (by decide)).2]; exact ⟨rfl, rfl⟩⟩, a9⟩
            · exact Or.inr g
          · by_cases zf : tI σ7 7 = 0
            · have hs := D.ns zf 0
              exact DD.gT (G' := fun Q _ => wpT (e + 6) 12 [ai 2] σ7 (zqV (fun u => Q () u) zno)) (fun Q I l k => ⟨Or.inr rfl, l 1 σ7 (br1 ⟨by decide, zf⟩ (br0 (by rw [hs.2.2]; decide) (bT_readAnswer_221 k)))⟩) (DD.gO ((D.stop (e := e + 4) (by decide)).mono))
            · exact DD.gT (G' := fun Q _ => wpT (e + 6) 20 [ai 41] σ7 (zqV (fun u => Q () u) zno)) (fun Q I l k => ⟨Or.inr rfl, l 1 σ7 (br0 (fun y => zf y.2) (bT_readAnswer_329 k))⟩) (DD.gO ((D.must (e := e + 2)).mono))
      · exact DD.gT (G' := fun Q _ => wpT (e + 6) 20 [ai 41] σ6 (zqV (fun u => Q () u) zno)) (fun Q I l k => bT_readAnswer_319 (D.takes (e := e + 4) _ (l 0 σ6 (br0 (fun y => y.1 rfl) (bT_readAnswer_329 k))))) (DD.gO ((D.must (e := e + 2)).mono))
    · have s7 : tI σ1 7 ≠ 0 := by
        intro y
        have := (D.ns y 0).2.2
        rw [(F 3 (by decide)).1] at this
        omega
      obtain ⟨σ3, F3, g1, g2, g3, g4, run3⟩ := an_note (τ := σ1) (e := e) (n := v') (i := i) ((F 27 (by decide)).1.trans r27) r192 (by rw [(F 58 (by decide)).2]; exact e58) (by omega)
      have D3 := D.ft F3 (by decide)
      have t7 : ¬ (tI σ3 7 = 0) := by rw [(F3 7 (by decide)).1]; exact s7
      refine DD.pre (tm' := tmL (anLT (e + 6)) (fun Q I => pT_readAnswer_319 (wpT (e + 6)) (fun w => Q () w) I σ3)) F3 (fun Q h I l => run3 _ _ (br0 t7 (h I l))) ?_
      exact DD.gT (G' := fun Q _ => wpT (e + 6) 20 [ai 41] σ3 (zqV (fun u => Q () u) zno)) (fun Q I l k => bT_readAnswer_319 (D3.takes (e := e + 4) _ (l 0 σ3 (br0 (fun y => y.1 rfl) (bT_readAnswer_329 k))))) (DD.gO ((D3.must (e := e + 2)).mono))
  · -- no name
    have hroom := Rm.room rb hR (k := 1) (n := 8) (by decide)
    refine OUTb.gX (how := 2) (pl := tI σ 5) rb (fun Q X I l k => anC_i (fa (rb.wantNo (d := d + 10) (if_neg (by rw [ty]; exact h1)) hroom k))) (DD.gT (G' := fun Q _ => wpT (e + 6) 12 [ai 2] σ (zqV (fun u => Q () u) zno)) (fun Q I l k => l 1 σ (br1 ⟨by decide, f0⟩ (br0 h1 (bT_readAnswer_221 k)))) (DD.gO ((rb.dstop (e := e + 4) (by decide)).mono)))
end ZCall3
