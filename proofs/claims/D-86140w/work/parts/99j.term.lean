/-! terms of a guard, both -/
section ZTerm
variable {p d e : Nat} {w : CW} {τ : TW}
theorem NmR.ft {S : List Nat} {τ' : TW} (h : NmR p w τ) (F : FT S τ τ') (hS : ∀ f, f ∈ S → f < 27 ∨ 31 < f) : NmR p w τ' ∧ nR τ' = nR τ ∧ nN τ' = nN τ ∧ ∀ v, nmB τ' v = nmB τ v := by
  have g : ∀ f, 27 ≤ f → f ≤ 31 → tI τ' f = tI τ f ∧ ∀ i, tA τ' f i = tA τ f i := fun f h1 h2 => F f (fun z => by have := hS f z; omega)
  have e1 : nR τ' = nR τ := by unfold nR; rw [(g 27 (by decide) (by decide)).1]
  have e2 : nN τ' = nN τ := by unfold nN; rw [(g 27 (by decide) (by decide)).1, (g 28 (by decide) (by decide)).2]
  have e3 : ∀ v n, nmN τ' v n = nmN τ v n := by
    intro v n
    induction n with
    | zero => rfl
    | succ n ih => unfold nmN; rw [ih, e1, (g 29 (by decide) (by decide)).2]
  refine ⟨?_, e1, e2, fun v => by unfold nmB; rw [e2]; exact e3 v _⟩
  unfold NmR
  rw [e1, e2, (g 27 (by decide) (by decide)).1, (g 31 (by decide) (by decide)).1, (g 28 (by decide) (by decide)).2]
  obtain ⟨a, b1, b2, b3, b4, b5, b6, b7, b8, b9, b10⟩ := h
  exact ⟨a, b1, b2, b3, b4, b5, b6, b7, fun i hi => by rw [(g 29 (by decide) (by decide)).2]; exact b8 i hi, fun i hi => by rw [(g 30 (by decide) (by decide)).2]; exact b9 i hi, fun i j q1 q2 => by rw [(g 29 (by decide) (by decide)).2, (g 29 (by decide) (by decide)).2]; exact b10 i j q1 q2⟩
/-- an int row that is nobody else's -/
def IArr (p : Nat) (w : CW) (a n : Nat) : Prop := tg w a = 102 ∧ ln w a = n ∧ p + 8 < a
theorem RB.sto (h : RB p w τ) {a n : Nat} (ha : IArr p w a n) (i v : Int) {T : List Nat} (hT : a ∈ T) : RB p (qI w a i v) τ ∧ ∀ S S', CF p T S S' w τ (qI w a i v) τ := by
  have hF : Fr (p :: [a]) w (qI w a i v) := (Fr.refl _ w).sqI (Or.inl (by simp))
  have hz := h.1.le (r := a) (by rw [ha.1]; decide)
  refine ⟨h.st (S := []) hF ((PF.refl _ _ _).sqI) h.1 (fun f hf => by cases hf) (fun r hr => ?_), fun S S' => ⟨hF.mono (fun r hr => ?_), (PF.refl _ _ _).sqI, h.1, FT.refl _ _, Int.le_refl _, rfl⟩⟩
  · rw [List.mem_singleton.mp hr]
    exact ⟨by have := ha.2.2; omega, Or.inr ⟨by rw [ha.1]; decide, hz⟩⟩
  · rcases List.mem_cons.mp hr with y | y
    · exact Or.inl (List.mem_cons.mpr (Or.inl y))
    · rw [List.mem_singleton.mp y]; exact Or.inl (List.mem_cons.mpr (Or.inr hT))
theorem CF.arr {T S S' : List Nat} {w' : CW} {τ' : TW} {a n : Nat} (h : CF p T S S' w τ w' τ') (W : WF p w) (ha : IArr p w a n) (hT : a ∉ T) : ∀ i, aI w' a i = aI w a i := by
  intro i
  refine ob.eaI (h.1.2.2.2.2 a (W.le (by rw [ha.1]; decide)) (fun z => ?_)) i
  rcases List.mem_cons.mp z with y | y
  · have := ha.2.2; omega
  · exact hT y
theorem pr_term {S S' T : List Nat} {g k t : Nat} (h : RB p w τ) (hN : NmR p w τ) (hg : tg w g = 13) (hn : IArr p w (fR w 78 g) 4) (hm : IArr p w (fR w 77 g) 4) (hne : fR w 77 g ≠ fR w 78 g) (hk : k < 4) (ht : t < 768) (hT : fR w 78 g ∈ T ∧ fR w 77 g ∈ T) (hS : ∀ f, f ∈ [9, 10, 11, 12, 13, 14] → f ∈ S) (hS' : ∀ f, f ∈ [2, 3, 4, 5, 6, 7, 8, 50, 51] → f ∈ S') (hR : Rm 500 w τ) :
    OUT p T S S' (-5700) 60 (fun (_ : Unit) (_ : Unit) w' τ' => (∀ x : Nat, x ≠ t → tA τ' 50 x = tA τ 50 x ∧ tA τ' 51 x = tA τ 51 x) ∧ (∀ i : Nat, i ≠ k → aI w' (fR w 78 g) i = aI w (fR w 78 g) i ∧ aI w' (fR w 77 g) i = aI w (fR w 77 g) i) ∧ ((tA τ' 50 t = 2 ∧ ∃ n : Nat, n < nN τ ∧ tA τ' 51 t = n ∧ aI w' (fR w 78 g) k = n ∧ bit (tI τ 31) n = 1 ∧ tA τ 30 (8 * nR τ + n : Nat) = 0) ∨ (tA τ' 50 t = 1 ∧ aI w' (fR w 78 g) k = aI w (fR w 78 g) k ∧ aI w' (fR w 77 g) k = tA τ' 51 t))) (fun Q X => wpC p (d + 15) 36 [ar p, ar g, ai k] w (zqV (Q ()) X)) (fun Q => wpT (e + 7) 40 [ai t] τ (zqV (Q ()) zno)) w τ := by
  have htr : (0 : Int) ≤ t ∧ (t : Int) < 768 := by omega
  have hkr : tg w (fR w 78 g) = 102 ∧ 0 ≤ (k : Int) ∧ (k : Int) < ln w (fR w 78 g) := ⟨hn.1, by omega, by rw [hn.2.1]; omega⟩
  have sA_x : ∀ (σ : TW) (f : Nat) (v : Int) (x : Nat), tA (sA σ f t v) f x = if x = t then v else tA σ f x := by
    intro σ f v x
    rw [tA_sA]
    by_cases z : x = t
    · rw [if_pos ⟨rfl, by omega⟩, if_pos z]
    · rw [if_neg (by omega), if_neg z]
  by_cases h1 : tI τ 3 = 1
  · -- a name
    obtain ⟨σ0, hσ0⟩ : ∃ σ0, σ0 = sA τ 50 t 2 := ⟨_, rfl⟩
    have F0 : FT [50] τ σ0 := by rw [hσ0]; exact (FT.refl _ τ).ssA (by simp)
    have h0 := h.ft F0 (fun f hf => by rw [List.mem_singleton.mp hf]; decide)
    obtain ⟨N0, eR, eN, eB⟩ := hN.ft F0 (fun f hf => by rw [List.mem_singleton.mp hf]; decide)
    have c0 : CF p T S S' w τ w σ0 := ⟨Fr.refl _ _, PF.refl _ _ _, h.1, F0.mono (fun f hf => hS' f (by simp at hf ⊢; omega)), by rw [(F0 5 (by decide)).1]; exact Int.le_refl _, (F0 1 (by decide)).1⟩
    have hp0 : pot w σ0 = pot w τ := by unfold pot; rw [(F0 5 (by decide)).1, (F0 1 (by decide)).1]
    obtain ⟨w1, σ1, b1, c10, run1, g1⟩ := pr_known (d := d + 8) (e := e + 3) (whole := 1) (T := T) (S := S) (S' := [7, 8]) h0 N0 (by rw [(F0 3 (by decide)).1]; exact h1) (Or.inr rfl) (fun f hf => hf) (by unfold Rm at *; rw [hp0]; omega)
    have c1 : CF p T S S' w σ0 w1 σ1 := c10.mono h.1 (fun r hr => Or.inl hr) (fun f hf => hf) (fun f hf => hS' f (by simp at hf ⊢; omega))
    have tm : ∀ Q : TW → Prop, (((tI (sA σ1 51 t b1) 7) = 0 →
        wpT (e + 6) 4 [] (sA σ1 51 t b1) (zqV (fun u27 => Q u27) zno)) ∧
      (¬ ((tI (sA σ1 51 t b1) 7) = 0) → Q (sA σ1 51 t b1))) → wpT (e + 7) 40 [ai t] τ (zqV Q zno) := by
      intro Q hh
      refine wT_readTerm (by omega) ⟨fun _ => ⟨htr, fa ?_⟩, fun y => absurd h1 y⟩
      rw [← hσ0]
      exact run1 _ ⟨htr, fa hh⟩
    have F51 : ∀ σ v, FT [51] σ (sA σ 51 t v) := fun σ v => (FT.refl _ σ).ssA (by simp)
    rcases g1 with ⟨v, rb1, p1, ⟨q1, q2, q3, n, q4, q5, q6, q7, q8⟩, k1⟩ | ⟨hh, pl, x, p1, wr, dd, k1⟩
    · subst q1
      subst q2
      have hb : v = n := q4
      obtain ⟨rbs, cfs⟩ := rb1.sto hn (k : Int) v hT.1
      obtain ⟨σ2, hσ2⟩ : ∃ σ2, σ2 = sA σ1 51 t v := ⟨_, rfl⟩
      have F2 : FT [51] σ1 σ2 := by rw [hσ2]; exact F51 _ _
      have rb2 := rbs.ft F2 (fun f hf => by rw [List.mem_singleton.mp hf]; decide)
      have hs0 : tI σ2 3 ≠ 0 := by
        rw [(F2 3 (by decide)).1, q3, (F0 3 (by decide)).1]; omega
      have hpp : pot (qI w1 (fR w1 78 g) k v) σ2 = pot w1 σ1 := by
        show pot w1 σ2 = _
        unfold pot; rw [(F2 5 (by decide)).1, (F2 1 (by decide)).1]
      obtain ⟨w3, σ3, c3, p3, run3, g3⟩ := nx (d := d + 2) (e := e + 2) (T := []) (S := [9, 10, 11, 12, 13, 14]) (S' := [2, 3, 4, 5, 6]) rb2 hs0 (fun f hf => hf) (fun f hf => hf) (by
        unfold Rm at *
        rw [hpp]
        have : mu (qI w1 (fR w1 78 g) k v) = mu w1 ∧ mz (qI w1 (fR w1 78 g) k v) = mz w1 := ⟨rfl, rfl⟩
        rw [this.1, this.2]
        omega)
      have cs : CF p T S S' w1 τ (qI w1 (fR w1 78 g) k v) σ2 := ⟨(cfs S S').1, (cfs S S').2.1, (cfs S S').2.2.1, (c0.trans c1 (fun r hr => Or.inl hr) (fun f hf => hf) (fun f hf => hf)).2.2.2.1.trans (F2.mono (fun f hf => hS' f (by simp at hf ⊢; omega))), by rw [(F2 5 (by decide)).1, q3, (F0 5 (by decide)).1]; exact Int.le_refl _, by rw [(F2 1 (by decide)).1, q3, (F0 1 (by decide)).1]⟩
      have c13 := cs.trans c3 (fun r hr => by cases hr) hS (fun f hf => hS' f (by simp at hf ⊢; omega))
      have cm : ∀ (Q : CW → Prop) (X : Nat → CW → Prop), wpC p (d + 14) 4 [ar p] (qI w1 (fR w1 78 g) k v) (zqV (fun u14 => Q u14) (fun x16 u17 => X x16 u17)) → wpC p (d + 15) 36 [ar p, ar g, ai k] w1 (zqV Q X) := by
        intro Q X hh
        refine wC_X0_term (Nat.zero_le _) ⟨fun _ => ⟨by rw [hg]; decide, ?_⟩, fun y => absurd (h.ty.trans h1) y⟩
        exact k1 (fun v11 u10 => (tg u10 (fR w1 78 g) = 102 ∧ 0 ≤ (k : Int) ∧ (k : Int) < ln u10 (fR w1 78 g)) ∧
      ∀ u12 : CW, u12 = qI u10 (fR w1 78 g) k v11 → wpC p (d + 14) 4 [ar p] u12 (zqV (fun u14 => Q u14) (fun x16 u17 => X x16 u17))) X ⟨hkr, fa hh⟩
      have tm2 : ∀ Q : TW → Prop, Q σ3 → wpT (e + 7) 40 [ai t] τ (zqV Q zno) := by
        intro Q hQ
        refine tm Q ⟨fun _ => ?_, fun y => absurd rb1.f0 y⟩
        rw [← hσ2]
        exact run3 _ hQ
      rcases g3 with ⟨rb3, k3⟩ | ⟨hh, pl, x, wr3, dd3, k3⟩
      · have hArr : ∀ (a : Nat) (i : Int), IArr p w1 a 4 → aI w3 a i = aI (qI w1 (fR w1 78 g) k v) a i := fun a i ha => CF.arr c3 rbs.1 (a := a) (n := 4) ha (by simp) i
        refine ⟨w3, σ3, (), c13, fun Q hQ => tm2 _ hQ, Or.inl ⟨(), rb3, by rw [hpp] at p3; omega, ⟨fun x hx => ⟨?_, ?_⟩, fun i hi => ⟨?_, ?_⟩, Or.inl ⟨?_, n, by rw [← eN]; exact q5, ?_, ?_, ?_, ?_⟩⟩, fun Q X hQ => cm _ X (k3 _ hQ)⟩⟩
        · rw [(c3.2.2.2.1 50 (by decide)).2, (F2 50 (by decide)).2, q3, hσ0, sA_x, if_neg hx]
        · rw [(c3.2.2.2.1 51 (by decide)).2, hσ2, sA_x, if_neg hx, q3, (F0 51 (by decide)).2]
        · rw [hArr _ _ hn, aI_qI, if_neg (by omega)]
        · rw [hArr _ _ hm, aI_qI, if_neg (fun y => hne y.1)]
        · rw [(c3.2.2.2.1 50 (by decide)).2, (F2 50 (by decide)).2, q3, hσ0, sA_x, if_pos rfl]
        · rw [(c3.2.2.2.1 51 (by decide)).2, hσ2, sA_x, if_pos rfl]; exact hb
        · rw [hArr _ _ hn, aI_qI, if_pos ⟨rfl, rfl⟩]; exact hb
        · have := q7; rw [(F0 31 (by decide)).1] at this; exact this
        · have := q8 rfl; rw [eR, (F0 30 (by decide)).2] at this; exact this
      · exact ⟨w3, σ3, (), c13, fun Q hQ => tm2 _ hQ, Or.inr ⟨hh, pl, x, by rw [hpp] at p3; omega, wr3, dd3, fun Q X hX => cm _ X (k3 _ hX)⟩⟩
    · have hne0 : tI σ1 7 ≠ 0 := by
        rcases dd with ⟨a, b, c⟩ | ⟨a, b, c, q, -⟩
        · omega
        · have : tI σ1 3 = tI τ 3 := (c10.2.2.2.1 3 (by decide)).1.trans (F0 3 (by decide)).1
          omega
      have c01 := c0.trans c1 (fun r hr => Or.inl hr) (fun f hf => hf) (fun f hf => hf)
      refine ⟨w1, sA σ1 51 t b1, (), ⟨c01.1, c01.2.1, c01.2.2.1, c01.2.2.2.1.trans ((F51 σ1 b1).mono (fun f hf => hS' f (by simp at hf ⊢; omega))), c01.2.2.2.2.1, c01.2.2.2.2.2⟩, fun Q hQ => tm _ ⟨fun y => absurd y hne0, fun _ => hQ⟩, Or.inr ⟨hh, pl, x, ?_, wr, dd.ft (F51 σ1 b1) (fun f hf => by rw [List.mem_singleton.mp hf]; decide), fun Q X hX => wC_X0_term (Nat.zero_le _) ⟨fun _ => ⟨by rw [hg]; decide, k1 (fun v11 u10 => (tg u10 (fR w 78 g) = 102 ∧ 0 ≤ (k : Int) ∧ (k : Int) < ln u10 (fR w 78 g)) ∧
      ∀ u12 : CW, u12 = qI u10 (fR w 78 g) k v11 → wpC p (d + 14) 4 [ar p] u12 (zqV (fun u14 => Q () u14) (fun x16 u17 => X x16 u17))) X hX⟩, fun y => absurd (h.ty.trans h1) y⟩⟩⟩
      have : pot w1 (sA σ1 51 t b1) = pot w1 σ1 := rfl
      omega
  · have hty : ¬ (fI w 10 p = 1) := fun y => h1 (h.ty.symm.trans y)
    have h1' : ¬ (tI τ 3 = 1) := h1
    have cm : ∀ (Q : CW → Prop) (X : Nat → CW → Prop), wpC p (d + 14) 27 [ar p] w (zqI (fun v4 u3 =>
      (tg u3 (fR w 77 g) = 102 ∧ 0 ≤ (k : Int) ∧ (k : Int) < ln u3 (fR w 77 g)) ∧
      ∀ u5 : CW, u5 = qI u3 (fR w 77 g) k v4 →
      Q u5) (fun x7 u8 =>
      X x7 u8)) → wpC p (d + 15) 36 [ar p, ar g, ai k] w (zqV Q X) := by
      intro Q X hh
      exact wC_X0_term (Nat.zero_le _) ⟨fun y => absurd y hty, fun _ => ⟨by rw [hg]; decide, hh⟩⟩
    by_cases h2 : (tI τ 3 = 3) ∨ (¬ ((ff_isSign 45 τ) = 0))
    · -- a number
      obtain ⟨σ0, hσ0⟩ : ∃ σ0, σ0 = sA τ 50 t 1 := ⟨_, rfl⟩
      have F0 : FT [50] τ σ0 := by rw [hσ0]; exact (FT.refl _ τ).ssA (by simp)
      have h0 := h.ft F0 (fun f hf => by rw [List.mem_singleton.mp hf]; decide)
      have hp0 : pot w σ0 = pot w τ := by unfold pot; rw [(F0 5 (by decide)).1, (F0 1 (by decide)).1]
      obtain ⟨w1, σ1, b1, c1, run1, g1⟩ := pr_whole (d := d) (e := e) (T := []) (S := [9, 10, 11, 12, 13, 14]) (S' := [2, 3, 4, 5, 6, 7, 8]) h0 (fun f hf => hf) (fun f hf => hf) (by unfold Rm at *; rw [hp0]; omega)
      obtain ⟨σ2, hσ2⟩ : ∃ σ2, σ2 = sA σ1 51 t b1 := ⟨_, rfl⟩
      have F2 : FT [51] σ1 σ2 := by rw [hσ2]; exact (FT.refl _ σ1).ssA (by simp)
      have tm : ∀ Q : TW → Prop, Q σ2 → wpT (e + 7) 40 [ai t] τ (zqV Q zno) := by
        intro Q hQ
        refine wT_readTerm (by omega) ⟨fun y => absurd y h1', fun _ => ⟨fun _ => ⟨htr, fa ?_⟩, fun y => absurd h2 y⟩⟩
        rw [← hσ0]
        refine run1 _ ⟨htr, fa ?_⟩
        rw [← hσ2]
        exact hQ
      have cT : CF p T S S' w τ w1 σ2 := ⟨(c1.mono h.1 (T := T) (S := S) (S' := S') (fun r hr => by cases hr) hS (fun f hf => hS' f (by simp at hf ⊢; omega))).1, (c1.mono h.1 (T := T) (S := S) (S' := S') (fun r hr => by cases hr) hS (fun f hf => hS' f (by simp at hf ⊢; omega))).2.1, c1.2.2.1, ((F0.mono (fun f hf => hS' f (by simp at hf ⊢; omega))).trans (c1.2.2.2.1.mono (fun f hf => hS' f (by simp at hf ⊢; omega)))).trans (F2.mono (fun f hf => hS' f (by simp at hf ⊢; omega))), by rw [(F2 5 (by decide)).1, ← (F0 5 (by decide)).1]; exact c1.2.2.2.2.1, by rw [(F2 1 (by decide)).1, ← (F0 1 (by decide)).1]; exact c1.2.2.2.2.2⟩
      have hp2 : pot w1 σ2 = pot w1 σ1 := by unfold pot; rw [(F2 5 (by decide)).1, (F2 1 (by decide)).1]
      have hArr : ∀ (a : Nat) (i : Int), IArr p w a 4 → aI w1 a i = aI w a i := fun a i ha => CF.arr c1 h.1 (a := a) (n := 4) ha (by simp) i
      have hm1 : IArr p w1 (fR w 77 g) 4 := by
        have hz := h.1.le (r := fR w 77 g) (by rw [hm.1]; decide)
        exact ⟨by rw [(c1.1.2.2.2.1 _ hz).1]; exact hm.1, by rw [(c1.1.2.2.2.1 _ hz).2]; exact hm.2.1, hm.2.2⟩
      rcases g1 with ⟨v, rb1, p1, ⟨q1, q2, q3⟩, k1⟩ | ⟨hh, pl, x, p1, wr, dd, k1⟩
      · have rb2 := rb1.ft F2 (fun f hf => by rw [List.mem_singleton.mp hf]; decide)
        obtain ⟨rbs, cfs⟩ := rb2.sto hm1 (k : Int) v hT.2
        have hpp : pot (qI w1 (fR w 77 g) k v) σ2 = pot w1 σ1 := hp2
        refine ⟨qI w1 (fR w 77 g) k v, σ2, (), cT.trans (cfs S S') (fun r hr => Or.inl hr) (fun f hf => hf) (fun f hf => hf), fun Q hQ => tm _ hQ, Or.inl ⟨(), rbs, by omega, ⟨fun x hx => ⟨?_, ?_⟩, fun i hi => ⟨?_, ?_⟩, Or.inr ⟨?_, ?_, ?_⟩⟩, fun Q X hQ => cm _ X (k1 (fun v4 u3 => (tg u3 (fR w 77 g) = 102 ∧ 0 ≤ (k : Int) ∧ (k : Int) < ln u3 (fR w 77 g)) ∧ ∀ u5 : CW, u5 = qI u3 (fR w 77 g) k v4 → Q () u5) X ⟨⟨hm1.1, by omega, by rw [hm1.2.1]; omega⟩, fa hQ⟩)⟩⟩
        · rw [(F2 50 (by decide)).2, (c1.2.2.2.1 50 (by decide)).2, hσ0, sA_x, if_neg hx]
        · rw [hσ2, sA_x, if_neg hx, (c1.2.2.2.1 51 (by decide)).2, (F0 51 (by decide)).2]
        · rw [aI_qI, if_neg (fun y => hne y.1.symm), hArr _ _ hn]
        · rw [aI_qI, if_neg (by omega), hArr _ _ hm]
        · rw [(F2 50 (by decide)).2, (c1.2.2.2.1 50 (by decide)).2, hσ0, sA_x, if_pos rfl]
        · rw [aI_qI, if_neg (fun y => hne y.1.symm), hArr _ _ hn]
        · rw [aI_qI, if_pos ⟨rfl, rfl⟩, hσ2, sA_x, if_pos rfl]; exact q1
      · exact ⟨w1, σ2, (), cT, fun Q hQ => tm _ hQ, Or.inr ⟨hh, pl, x, by omega, wr, dd.ft F2 (fun f hf => by rw [List.mem_singleton.mp hf]; decide), fun Q X hX => cm _ X (k1 (fun v4 u3 => (tg u3 (fR w 77 g) = 102 ∧ 0 ≤ (k : Int) ∧ (k : Int) < ln u3 (fR w 77 g)) ∧ ∀ u5 : CW, u5 = qI u3 (fR w 77 g) k v4 → Q () u5) X hX)⟩⟩
    · -- neither
      have h3 : tI τ 3 ≠ 3 := fun y => h2 (Or.inl y)
      have hs : ff_isSign 45 τ = 0 := Classical.byContradiction (fun y => h2 (Or.inr y))
      obtain ⟨τ1, ⟨a1, b1, d1⟩, r1⟩ := RB.stop (e := e + 4) h (k := 2) (by decide)
      refine OUT.thr' (b := ()) h (by decide) (fun Q X hX => cm _ X (wC_X0_readWhole (Nat.zero_le _) (wC_X0_signed (Nat.zero_le _) (sR_isSign h (by decide) ?_)))) a1 ⟨hS' 7 (by decide), hS' 8 (by decide)⟩ b1 (fun Q hQ => wT_readTerm (by omega) ⟨fun y => absurd y h1', fun _ => ⟨fun y => absurd y h2, fun _ => r1 _ hQ⟩⟩)
      rw [hs]
      refine ⟨fun _ => fa ?_, fun y => absurd rfl y⟩
      rw [h.ty, if_neg h3]
      refine sC_wantNo rfl (Rm.room h hR (k := 1) (n := 8) (by decide)) ?_
      rw [h.pl]
      exact hX
end ZTerm
