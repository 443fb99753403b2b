/-! alternatives, both: one more -/
section ZEith3
variable {p b e d : Nat} {w : CW} {τ : TW}
theorem PS.arr {o x : Nat} {S' : List Nat} {w' : CW} {τ' : TW} (h : PS p w τ o) (K : KR p w' τ') (c : CF p [x] [] S' w τ w' τ') (hx : p + 8 < x) (rb : RB p w' τ') (hS : ∀ f, f ∈ S' → 36 ≤ f ∧ f ≤ 40) : PS p w' τ' o := by
  obtain ⟨h1, h2, h3, h4, h5, h6, h7, h8, h9, h10, h11⟩ := h
  have F := c.2.2.2.1
  have g : ∀ f, f < 36 → tI τ' f = tI τ f ∧ ∀ x, tA τ' f x = tA τ f x := fun f hf => F f (fun y => by have := hS f y; omega)
  have en : np τ' = np τ := np_ft F (fun y => by have := hS _ y; omega)
  refine ⟨rb, K, h3.on h1.1 c (fun r hr => by rw [List.mem_singleton.mp hr]; exact hx) (by simp) (fun f hf => by have := hS f hf; omega), by rw [(g 16 (by decide)).1, en]; exact h4, by rw [en, (g 5 (by decide)).1]; exact h5, by rw [(g 32 (by decide)).1]; exact h6, h7, by rw [(c.2.1 19 (by simp)).1]; exact h8, by rw [(c.2.1 20 (by simp)).1]; exact h9, fun k hk => (h10 k hk).on' hk ⟨fun f hf x _ => (g f (by omega)).2 _, fun f h1 h2 x _ => (g f (by omega)).2 _⟩ (h11 k hk), fun k hk => ?_⟩
  obtain ⟨q, a1, a2⟩ := h11 k hk
  exact ⟨q, by rw [(g 33 (by decide)).2]; exact a1, by rw [en]; exact a2⟩
theorem b01 {B k : Nat} (hB : B < 256) (hk : k < 8) : (bit B k = 1 ↔ B.testBit k = true) ∧ (bit B k = 0 ↔ B.testBit k = false) := by
  rw [bit_eq hB (by omega)]
  cases B.testBit k <;> simp
/-- what an alternative binds, as bits -/
theorem mineD {B0 B1 mk : Nat} {D : Nat → Prop} (h0 : B0 < 256) (h1 : B1 < 256) (hm : ∀ k, mk.testBit k = (B1.testBit k && !B0.testBit k)) (hb : ∀ k, k < 8 → (bit B1 k = 1 ↔ bit B0 k = 1 ∨ D k)) (hd : ∀ k, D k → bit B0 k = 0) : (∀ k, k < 8 → (mk.testBit k = true ↔ D k)) ∧ ∀ k, k < 8 → (B1.testBit k = true ↔ B0.testBit k = true ∨ D k) := by
  have e : ∀ k, k < 8 → (B1.testBit k = true ↔ B0.testBit k = true ∨ D k) := fun k hk => by
    rw [← (b01 h1 hk).1, ← (b01 h0 hk).1]; exact hb k hk
  refine ⟨fun k hk => ?_, e⟩
  rw [hm]
  have ek := e k hk
  by_cases z : D k
  · have z0 := (b01 h0 hk).2.mp (hd k z)
    rw [ek.mpr (Or.inr z), z0]
    exact ⟨fun _ => z, fun _ => rfl⟩
  · refine ⟨fun y => ?_, fun y => absurd y z⟩
    cases y0 : B0.testBit k
    · cases y1 : B1.testBit k
      · rw [y1] at y; cases y
      · rcases ek.mp y1 with q | q
        · rw [y0] at q; cases q
        · exact q
    · rw [y0] at y; simp at y
theorem min_add {A B : Int} (h : 1 ≤ A ∧ A ≤ 1000) (k : 1 ≤ B ∧ B ≤ 1000) : (if ¬ (w32 (A + B) ≤ 1000) then 1000 else w32 (A + B)) = min 1000 (A + B) := by
  rw [w32_s (by omega) (by omega)]
  split <;> omega
/-- the open row's fields, behind a step of both -/
theorem ei_step {n o a x7 i r B0 : Nat} {s x1 x2 x5 x6 x8 : Int} {call : Nat → List ZA → CW → (ZRes → CW → Prop) → Prop} {u u1 u2 : CW} {σ σ1 : TW} {c : Nat → Nat} {Di : Nat → Nat → Prop} {Sn : Nat → Nat → Int} {D : Nat → Prop} (h : PS p w τ o) (b31 : tI σ 31 = B0) (hB0 : B0 < 256) (hx5 : x5 = B0) (hI : EIC p a x7 (n + 1) w τ s o B0 i x6 x8 u σ c Di Sn) (ho : o + 1 ≤ 6) (hi : i < 6) (haw : cz w < a) (hax : a < x7)
    (rb : RB p u σ) (rb1 : RB p u1 σ1) (c1 : CF p [fR u 15 p, fR u 16 p] SPC SPT u σ u1 σ1) (hP1 : PS p u1 σ1 (o + 1)) (lt1 : np σ < np σ1) (m18 : tA σ1 18 (np σ) = s) (m23 : tA σ1 23 (np σ) = -4) (U1 : UT σ σ1 (o + 1)) (R1 : nR σ1 = nR σ) (pr : PRel p a u1 σ1 (SnR σ1) (n + 1) (np σ1) r (np σ) D) (bn : BN σ σ1 D) (eu2 : u2 = qR u1 a i r) :
    ∃ (σ2 σ3 : TW) (u3 : CW) (y mk x6' : Int), FT [22, 23, 26, 34, 35] σ1 σ2 ∧ FT [38, 39, 40] σ2 σ3 ∧ tI σ2 32 = ((o + 1 : Nat) : Int) ∧ tA σ2 33 o = np τ ∧ tA σ2 17 (np τ) = 6 ∧ (∀ Q, Q (.inl none) σ2 → wpT (e + 8) 35 [ai (np σ)] σ1 Q) ∧ (∀ Q, Q (.inl none) σ3 → wpT (e + 7) 37 [] σ2 Q) ∧
      mk = i_and (fI u2 18 p) (i_xor x5 (-1)) ∧ x6' = (if ((i + 1 : Nat) : Int) = 1 then mk else x6) ∧ (Fr [x7] u2 u3 ∧ PF [] p u2 u3 ∧ WF p u3 ∧ cz u3 = cz u2 ∧ cu u3 = cu u2) ∧ (∀ (Q : Nat → CW → Prop) (X : Nat → CW → Prop) (I42 : Int → Int → Int → CW → Prop), pC_X0_either_228 p call Q X I42 x1 x2 a ((i + 1 : Nat) : Int) x5 x6' x7 y u3 → pC_X0_either_130 p call Q X I42 x1 x2 a ((i + 1 : Nat) : Int) x5 x6' x7 (i_and x8 (if mk = x6' then 1 else 0)) mk 0 u2) ∧
      EIC p a x7 (n + 1) w τ s o B0 (i + 1) x6' y u3 σ3 (fun j => if j = i then np σ else c j) (fun j => if j = i then D else Di j) (fun j => if j = i then SnR σ1 else Sn j) ∧ PS p u3 σ3 (o + 1) := by
  obtain ⟨⟨hC, hU, hRR, hlt⟩, ⟨⟨g17, g18, g23, g24, g25⟩, ⟨l33, l34, l35, l36, l37⟩, hps⟩, ⟨hn1, hn2, hn3⟩, hF, ⟨hx8, h39, hlk⟩, ⟨ta, la, t7, l7⟩, hc⟩ := hI
  have kz := h.2.1.1.2.2.2.2
  have kz1 : p + 8 ≤ cz w := kz
  have nA1 := hP1.2.2.1.1
  have eR : fR u1 15 p = fR u 15 p ∧ fR u1 16 p = fR u 16 p := ⟨(c1.2.1 15 (by decide)).2, (c1.2.1 16 (by decide)).2⟩
  have eR0 : fR u 15 p = fR w 15 p ∧ fR u 16 p = fR w 16 p := ⟨(hc.2.1 15 (by decide)).2, (hc.2.1 16 (by decide)).2⟩
  have y15 : fR u1 15 p ≤ p + 8 := nA1.1.2.2.2
  have y16 : fR u1 16 p ≤ p + 8 := nA1.2.2.2.2
  have inT : ∀ x, p + 8 < x → x ∉ p :: [fR u 15 p, fR u 16 p] := fun x hx y => by
    simp only [List.mem_cons, List.not_mem_nil, or_false] at y
    omega
  have oa := c1.1.2.2.2.2 a (rb.1.le (by rw [ta]; decide)) (inT a (by omega))
  have o7 := c1.1.2.2.2.2 x7 (rb.1.le (by rw [t7]; decide)) (inT x7 (by omega))
  have ta1 : tg u1 a = 114 := (ob.etg oa).trans ta
  have la1 : ln u1 a = 6 := (ob.eln oa).trans la
  have t71 : tg u1 x7 = 102 := (ob.etg o7).trans t7
  have l71 : ln u1 x7 = 8 := (ob.eln o7).trans l7
  have o1lt : o < o + 1 := Nat.lt_succ_self o
  have rg1 := rb1.rg
  have npz : np σ1 < 1700 := by have := hP1.2.2.2.2.1; have : tI σ1 5 = tI σ1 5 := rfl; omega
  have m32 : tI σ1 32 = ((o + 1 : Nat) : Int) := hP1.2.2.2.2.2.1
  have m33 : tA σ1 33 o = np τ := (U1.2.1 33 (by decide) (by decide) o o1lt).trans l33
  have m34 : tA σ1 34 o = i := (U1.2.1 34 (by decide) (by decide) o o1lt).trans l34
  have m35 : tA σ1 35 o = if i = 0 then (-4 : Int) else c (i - 1) := (U1.2.1 35 (by decide) (by decide) o o1lt).trans l35
  have m17 : tA σ1 17 (np τ) = 6 := (U1.1 17 (by decide) (by decide) _ hlt).trans g17
  have hci : ∀ j, j < i → np τ < c j ∧ c j < np σ := hC.2.2.2.2.1
  have ei1 : w32 ((i : Int) + 1) = ((i + 1 : Nat) : Int) := w32_k (by omega)
  obtain ⟨σ2, F2, q35, q34, qa, qb, run2⟩ := sT_comesInto (d := e + 7) (τ := σ1) (k := o) (q := np τ) (v := np σ) (by omega) m32 m33 (by omega) (by omega) (by
    rw [m35]
    split
    · exact Or.inl rfl
    · right
      have := hci (i - 1) (by omega)
      omega)
  have n32 : tI σ2 32 = ((o + 1 : Nat) : Int) := (F2 32 (by decide)).1.trans m32
  have n33 : tA σ2 33 o = np τ := ((F2 33 (by decide)).2 _).trans m33
  have n17 : tA σ2 17 (np τ) = 6 := ((F2 17 (by decide)).2 _).trans m17
  have r27 : tI σ2 27 = nR σ1 := (F2 27 (by decide)).1.trans hP1.2.2.1.2.1
  have rlt := hP1.2.2.1.2.2.1
  obtain ⟨σ3, F3, z1, z2, z3, z4, run3⟩ := sT_endsAlt (d := e + 6) (τ := σ2) r27 rlt (by omega) n32
  have q34' : ∀ x : Nat, tA σ2 34 x = if x = o then ((i + 1 : Nat) : Int) else tA σ1 34 x := fun x => by rw [q34 x, m34, ei1]
  have n34 : tA σ2 34 o = ((i + 1 : Nat) : Int) := (q34' o).trans (if_pos rfl)
  -- the component's names
  obtain ⟨B1, hB1, hB1l, hB1n⟩ := hP1.2.2.1.2.2.2.2.2.2.2.1
  have hB1' : tI σ1 31 = B1 := hB1
  have f18 : fI u2 18 p = B1 := by rw [eu2]; exact hP1.2.2.1.2.2.2.2.2.2.1.trans hB1'
  obtain ⟨mn, hmn, hmn2, hmn3⟩ := mine2 hB1l hB0
  have bn3 : ∀ k, D k → k < nN σ1 ∧ bit B0 k = 0 := fun k hk => by rw [← b31]; exact bn.2.2.1 k hk
  have bn4 : ∀ k, k < 8 → (bit B1 k = 1 ↔ bit B0 k = 1 ∨ D k) := fun k hk => by rw [← b31, ← hB1']; exact bn.2.2.2.1 k hk
  have nle8 : nN σ1 ≤ 8 := hP1.2.2.1.2.2.2.2.1
  obtain ⟨mD, b1D⟩ := mineD hB0 hB1l hmn3 bn4 (fun k hk => (bn3 k hk).2)
  obtain ⟨mk, hmk⟩ : ∃ mk, mk = i_and (fI u2 18 p) (i_xor x5 (-1)) := ⟨_, rfl⟩
  have emk : mk = mn := by rw [hmk, f18, hx5]; exact hmn
  obtain ⟨x6', hx6'⟩ : ∃ x6' : Int, x6' = (if ((i + 1 : Nat) : Int) = 1 then mk else x6) := ⟨_, rfl⟩
  have W2 : WF p u2 := by rw [eu2]; exact rb1.1.sqR _ _ _
  have e162 : fR u2 16 p = fR u1 16 p := by rw [eu2]; rfl
  have x80 : x8 = 0 ∨ x8 = 1 := hx8.imp (fun y => y.1) id
  have a8 := and01' (P := mk = x6') x80
  obtain ⟨u3, y, f1, f2, f3, f4, f5, f6, -, f8, run130⟩ := sC_e130 (p := p) (call := call) (x1 := x1) (x2 := x2) (x4 := ((i + 1 : Nat) : Int)) (x5 := x5) (x6 := x6') (x10 := mk) (x3 := a) (x7 := x7) 8 0 u2 (i_and x8 (if mk = x6' then 1 else 0)) rfl W2 (by rw [e162, eu2]; exact nA1.2.1) (by rw [e162, eu2]; exact nA1.2.2.1) (by rw [eu2]; exact t71) (by rw [eu2]; exact l71) (by rw [e162]; omega) a8.1
  -- what stays
  have pf1 : fR u1 0 p = fR u 0 p := (c1.2.1 0 (by decide)).2
  have hk0 : fR w 0 p ≤ p + 8 ∧ p < fR w 0 p := ⟨h.2.1.1.2.2.2.1, h.2.1.1.2.2.1⟩
  have e00 : fR u 0 p = fR w 0 p := (hc.2.1 0 (by decide)).2
  have Ku : KR p u σ := h.2.1.fr (T := [fR w 15 p, fR w 16 p]) h.1.1 hc.1 hc.2.1 (fun r hr => by
    have nA := h.2.2.1.1
    have kA := h.2.1.1
    rcases List.mem_cons.mp hr with y | y
    · rw [y]; exact Or.inl ⟨nA.1.2.2.2, fun z => by have := nA.1.1; rw [z, kA.1] at this; cases this⟩
    · rw [List.mem_singleton.mp y]; exact Or.inl ⟨nA.2.2.2.2, fun z => by have := nA.2.1; rw [z, kA.1] at this; cases this⟩) (by decide) (by decide) hc.2.2.2.1 (by decide)
  have nka : fR u 0 p ∉ p :: [fR u 15 p, fR u 16 p] := by
    intro y
    have y1 : tg u1 (fR u 15 p) = 103 := by rw [← eR.1]; exact nA1.1.1
    have y2 : tg u1 (fR u 16 p) = 102 := by rw [← eR.2]; exact nA1.2.1
    have y3 : tg u1 (fR u1 0 p) = 112 := hP1.2.1.1.1
    rw [pf1] at y3
    simp only [List.mem_cons, List.not_mem_nil, or_false] at y
    rcases y with z | z | z
    · omega
    · rw [z, y1] at y3; cases y3
    · rw [z, y2] at y3; cases y3
  have kd1 : ∀ j, kd u1 p j = kd u p j := fun j => kd_fr2 Ku.1 c1.1 pf1 nka j
  have F1 : FT SPT σ σ1 := c1.2.2.2.1
  have kk1 : nK σ ≤ nK σ1 ∧ ∀ k, k < nK σ → kd u1 p k = kd u p k ∧ tA σ1 14 k = tA σ 14 k ∧ ∀ i : Nat, (i : Int) < tA σ 14 k → tA σ1 15 (4 * k + i : Nat) = tA σ 15 (4 * k + i : Nat) := ⟨by unfold nK; rw [(F1 10 (by decide)).1]; exact Nat.le_refl _, fun k _ => ⟨kd1 k, (F1 14 (by decide)).2 _, fun _ _ => (F1 15 (by decide)).2 _⟩⟩
  have kd2 : ∀ j, kd u2 p j = kd u1 p j := fun j => by
    rw [eu2]
    show aR (qR u1 a i r) (fR u1 0 p) j = _
    rw [aR_qR, if_neg]
    · rfl
    · intro y
      omega
  have hAq : ∀ x (j : Nat), aR u2 x j = if x = a ∧ j = i then r else aR u1 x j := by
    intro x j
    rw [eu2, aR_qR]
    by_cases z : x = a ∧ j = i
    · rw [if_pos ⟨z.1, by omega⟩, if_pos z]
    · rw [if_neg (by omega), if_neg z]
  have r26 := PRel.rows _ _ _ _ _ pr
  have q26 : tA σ1 26 (np τ) = tA σ 26 (np τ) := U1.1 26 (by decide) (by decide) _ hlt
  have fq : Fr [a] u1 u2 := by rw [eu2]; exact (Fr.refl _ _).sqR (Or.inl (by simp))
  have pq : PF [] p u1 u2 := by rw [eu2]; exact (PF.refl _ _ _).sqR
  have hCA := CHI.add (u2 := u2) (σ2 := σ2) (r := r) (D := D) (o := o + 1) (T := p :: [fR u 15 p, fR u 16 p]) hC hlt rb.1 rb1.1 c1.1 (fun x hx => by
      left
      simp only [List.mem_cons, List.not_mem_nil, or_false] at hx
      omega) U1 lt1 pr m23 fq (fun j => ob.eaR oa j) hAq F2 kk1 kd2 (fun z => by
      have := qa (by rw [m35, if_pos z])
      exact this) (fun z => by
      obtain ⟨x1, x2, x3⟩ := qb (c (i - 1)) (by rw [m35, if_neg (by omega)])
      refine ⟨x1, x2, fun x => ?_⟩
      rw [x3 x, m17, if_neg (show ¬ ((6 : Int) = 5) by decide)]
      have b1 := hC.2.2.2.2.2.2.2.1 (i - 1) (by omega)
      have b2 := hC.2.2.2.2.2.2.1 z
      rw [← b2, ← q26] at b1
      rw [min_add b1 r26]
      simp only [Bool.false_eq_true, if_false])
  have rb2 : RB p u2 σ2 := (rb1.st (T := [a]) (S := []) (fq.mono (fun x hx => Or.inl (List.mem_cons.mpr (Or.inr hx)))) pq W2 (fun f hf => by cases hf) (fun r hr => by
    rw [List.mem_singleton.mp hr]
    exact ⟨by omega, Or.inr ⟨by rw [ta1]; decide, rb1.1.le (by rw [ta1]; decide)⟩⟩)).ft F2 (by decide)
  have P2 : PS p u2 σ2 (o + 1) := by
    rw [eu2] at rb2 ⊢
    exact PS.came (i := i + 1) hP1 rb2 (rb1.1.le (by rw [ta1]; decide)) (by omega) (by rw [ta1]; decide) F2 m33 (Nat.lt_trans hlt lt1) q35 q34' (Nat.lt_trans lt1 npz) (by omega) (Or.inr m17) (Nat.lt_trans hlt (Nat.lt_trans lt1 npz))
  have t72 : tg u2 x7 = 102 := by rw [eu2]; exact t71
  have rb3 : RB p u3 σ3 := (rb2.st (T := [x7]) (S := []) (f1.mono (fun x hx => Or.inl (List.mem_cons.mpr (Or.inr hx)))) f2 f3 (fun f hf => by cases hf) (fun r hr => by
    rw [List.mem_singleton.mp hr]
    exact ⟨by omega, Or.inr ⟨by rw [t72]; decide, rb2.1.le (by rw [t72]; decide)⟩⟩)).ft F3 (by decide)
  have cq : CF p [a] [] [22, 23, 26, 34, 35] u1 σ1 u2 σ2 := ⟨fq.mono (fun x hx => Or.inl (List.mem_cons.mpr (Or.inr hx))), pq, W2, F2, Int.le_of_eq (F2 5 (by decide)).1.symm, (F2 1 (by decide)).1⟩
  have c23 : CF p [x7] [] [38, 39, 40] u2 σ2 u3 σ3 := ⟨f1.mono (fun x hx => Or.inl (List.mem_cons.mpr (Or.inr hx))), f2, f3, F3, Int.le_of_eq (F3 5 (by decide)).1.symm, (F3 1 (by decide)).1⟩
  have cA : CF p [fR w 15 p, fR w 16 p] SPC SPT w τ u3 σ3 := ((hc.trans c1 (fun r hr => by rw [eR0.1, eR0.2] at hr; exact Or.inl hr) (fun f hf => hf) (fun f hf => hf)).trans cq (fun r hr => by rw [List.mem_singleton.mp hr]; exact Or.inr haw) (fun f hf => by cases hf) (by decide)).trans c23 (fun r hr => by rw [List.mem_singleton.mp hr]; exact Or.inr (Nat.lt_trans haw hax)) (fun f hf => by cases hf) (by decide)
  have K3 : KR p u3 σ3 := h.2.1.fr (T := [fR w 15 p, fR w 16 p]) h.1.1 cA.1 cA.2.1 (fun r hr => by
    have nA := h.2.2.1.1
    have kA := h.2.1.1
    rcases List.mem_cons.mp hr with y | y
    · rw [y]; exact Or.inl ⟨nA.1.2.2.2, fun z => by have := nA.1.1; rw [z, kA.1] at this; cases this⟩
    · rw [List.mem_singleton.mp y]; exact Or.inl ⟨nA.2.2.2.2, fun z => by have := nA.2.1; rw [z, kA.1] at this; cases this⟩) (by decide) (by decide) cA.2.2.2.1 (by decide)
  have K2 : KR p u2 σ2 := P2.2.1
  have hC3 := hCA.nxT (u' := u3) (σ' := σ3) W2 K2.1 (by omega) (by rw [eu2]; show tg u1 a ≠ 0; rw [ta1]; decide) c23 (fun x hx => by
    rw [List.mem_singleton.mp hx]
    refine ⟨by omega, ?_, Or.inr (by rw [t72]; unfold ptg; omega)⟩
    have y1 : fR u2 0 p ≤ p + 8 := K2.1.2.2.2.1
    omega) (by simp) (by decide)
  -- the reference's rows
  have F13 : FT [22, 23, 26, 34, 35, 38, 39, 40] σ1 σ3 := (F2.mono (by decide)).trans (F3.mono (by decide))
  have R3 : nR σ3 = nR τ := (nR_ft F13 (by decide)).trans (R1.trans hRR)
  have eR1 : nR σ1 = nR τ := R1.trans hRR
  have eS3 : ∀ k, SnR σ3 k = SnR σ1 k := fun k => by unfold SnR; rw [nR_ft F13 (by decide), (F13 30 (by decide)).2]
  have eN3 : nN σ3 = nN σ1 := nN_ft F13 (by decide) (by decide)
  have e22 : ∀ x : Nat, x ≠ np τ → tA σ2 22 x = tA σ1 22 x := by
    intro x hx
    rcases Nat.eq_zero_or_pos i with z | z
    · rw [(qa (by rw [m35, if_pos z])).1, if_neg hx]
    · rw [(qb (c (i - 1)) (by rw [m35, if_neg (by omega)])).1]
  have e26 : ∀ x : Nat, x ≠ np τ → tA σ2 26 x = tA σ1 26 x := by
    intro x hx
    rcases Nat.eq_zero_or_pos i with z | z
    · rw [(qa (by rw [m35, if_pos z])).2.2, if_neg hx]
    · rw [(qb (c (i - 1)) (by rw [m35, if_neg (by omega)])).2.2, if_neg hx]
  have e23 : ∀ x : Nat, x ≤ np τ → tA σ2 23 x = tA σ1 23 x := by
    intro x hx
    rcases Nat.eq_zero_or_pos i with z | z
    · rw [(qa (by rw [m35, if_pos z])).2.1]
    · have := hci (i - 1) (by omega)
      rw [(qb (c (i - 1)) (by rw [m35, if_neg (by omega)])).2.1, if_neg (by omega)]
  have U01 : UT τ σ1 o := hU.trans (U1.weak (Nat.le_succ o)) (Nat.le_of_lt hlt) hRR
  have g3 : ∀ f, f ≠ 38 → f ≠ 39 → f ≠ 40 → ∀ x, tA σ3 f x = tA σ2 f x := fun f h1 h2 h3 => (F3 f (by simp only [List.mem_cons, List.not_mem_nil, or_false]; omega)).2
  have g2 : ∀ f, f ≠ 22 → f ≠ 23 → f ≠ 26 → f ≠ 34 → f ≠ 35 → ∀ x, tA σ2 f x = tA σ1 f x := fun f h1 h2 h3 h4 h5 => (F2 f (by simp only [List.mem_cons, List.not_mem_nil, or_false]; omega)).2
  have U3 : UT τ σ3 o := by
    obtain ⟨a1, a2, a3, a4, a5⟩ := U01
    refine ⟨fun f h1 h2 x hx => ?_, fun f h1 h2 x hx => ?_, fun x hx => ?_, fun x hx => ⟨((F13 29 (by decide)).2 _).trans (a4 x hx).1, ((F13 30 (by decide)).2 _).trans (a4 x hx).2⟩, fun x hx => ((F13 28 (by decide)).2 _).trans (a5 x hx)⟩
    · rw [g3 f (by omega) (by omega) (by omega)]
      by_cases f22 : f = 22
      · subst f22; exact (e22 x (Nat.ne_of_lt hx)).trans (a1 22 h1 h2 x hx)
      · by_cases f23 : f = 23
        · subst f23; exact (e23 x (Nat.le_of_lt hx)).trans (a1 23 h1 h2 x hx)
        · by_cases f26 : f = 26
          · subst f26; exact (e26 x (Nat.ne_of_lt hx)).trans (a1 26 h1 h2 x hx)
          · exact ((F2 f (fst5 h1 h2 f22 f23 f26)).2 _).trans (a1 f h1 h2 x hx)
    · by_cases f38 : f = 38
      · subst f38; exact ((z1 x (Nat.ne_of_lt hx)).1.trans ((F2 38 (by decide)).2 _)).trans (a2 38 h1 h2 x hx)
      · by_cases f39 : f = 39
        · subst f39; exact ((z1 x (Nat.ne_of_lt hx)).2.trans ((F2 39 (by decide)).2 _)).trans (a2 39 h1 h2 x hx)
        · rw [g3 f f38 f39 (by omega)]
          by_cases f34 : f = 34
          · subst f34; rw [q34', if_neg (Nat.ne_of_lt hx)]; exact a2 34 h1 h2 x hx
          · by_cases f35 : f = 35
            · subst f35; rw [q35, if_neg (Nat.ne_of_lt hx)]; exact a2 35 h1 h2 x hx
            · exact ((F2 f (fst5' h1 h2 f34 f35)).2 _).trans (a2 f h1 h2 x hx)
    · rw [z2 x (Or.inl hx)]
      exact ((F2 40 (by decide)).2 _).trans (a3 x hx)
  have lt3 : np τ < np σ3 := by rw [np_ft F13 (by decide)]; exact Nat.lt_trans hlt lt1
  have row1 : ∀ f, 17 ≤ f → f ≤ 26 → f ≠ 22 → f ≠ 23 → f ≠ 26 → tA σ3 f (np τ) = tA σ f (np τ) := fun f h1 h2 h3 h4 h5 => ((g3 f (by omega) (by omega) (by omega) _).trans (g2 f h3 h4 h5 (by omega) (by omega) _)).trans (U1.1 f h1 h2 _ hlt)
  have opn1 : ∀ f, 33 ≤ f → f ≤ 37 → f ≠ 34 → f ≠ 35 → tA σ3 f o = tA σ f o := fun f h1 h2 h3 h4 => ((g3 f (by omega) (by omega) (by omega) _).trans (g2 f (by omega) (by omega) (by omega) h3 h4 _)).trans (U1.2.1 f h1 (by omega) o o1lt)
  -- the names' sorts
  have n16 : ∀ k : Nat, k < nN σ1 → aI u2 (fR u2 16 p) k = SnR σ1 k := fun k hk => by
    rw [e162, eu2]
    exact hP1.2.2.1.2.2.2.2.2.2.2.2.2.1 k hk
  have a7u : ∀ k : Nat, aI u2 x7 k = aI u x7 k := fun k => by rw [eu2]; exact ob.eaI o7 _
  have bD : ∀ k, k < 8 → (bit mk k = 1 ↔ D k) := fun k hk => by rw [emk, (b01 hmn2 hk).1]; exact mD k hk
  have s231 : tI σ2 31 = B1 := (F2 31 (by decide)).1.trans hB1'
  have s30 : ∀ k : Nat, tA σ2 30 (8 * nR σ1 + k : Nat) = SnR σ1 k := fun k => (F2 30 (by decide)).2 _
  have s38 : tA σ2 38 o = tA σ 38 o := (g2 38 (by decide) (by decide) (by decide) (by decide) (by decide) _).trans (U1.2.1 38 (by decide) (by decide) o o1lt)
  have s39 : tA σ2 39 o = tA σ 39 o := (g2 39 (by decide) (by decide) (by decide) (by decide) (by decide) _).trans (U1.2.1 39 (by decide) (by decide) o o1lt)
  have s37 : tA σ2 37 o = B0 := ((g2 37 (by decide) (by decide) (by decide) (by decide) (by decide) _).trans (U1.2.1 37 (by decide) (by decide) o o1lt)).trans l37
  have s40 : ∀ k : Nat, k < 8 → tA σ2 40 (8 * o + k : Nat) = tA σ 40 (8 * o + k : Nat) := fun k hk => (g2 40 (by decide) (by decide) (by decide) (by decide) (by decide) _).trans (U1.2.2.1 _ (by omega))
  have bnS : ∀ k, k < 8 → ¬ D k → SnR σ1 k = SnR σ k := fun k hk hd => by
    unfold SnR
    rw [R1]
    exact bn.2.2.2.2 k hk hd
  have base : i = 0 → ∀ k, k < 8 → SnR σ k = SnR τ k := fun z k hk => (hlk (by rcases hx8 with y | y <;> omega)).2.2 k hk (fun j hj => by omega)
  have hFx := hF
  have first : (∃ m : Nat, x6' = m ∧ m < 256 ∧ ∀ k, k < 8 → (m.testBit k = true ↔ (if 0 = i then D else Di 0) k)) ∧ (∃ f : Nat, tA σ3 38 o = f ∧ f < 256 ∧ ∀ k, k < 8 → (f.testBit k = true ↔ B0.testBit k = true ∨ (if 0 = i then D else Di 0) k)) ∧ (∀ k, k < 8 → (if 0 = i then D else Di 0) k → aI u3 x7 k = (if 0 = i then SnR σ1 else Sn 0) k ∧ tA σ3 40 (8 * o + k : Nat) = (if 0 = i then SnR σ1 else Sn 0) k) ∧ ∀ k, k < 8 → ¬ (if 0 = i then D else Di 0) k → tA σ3 40 (8 * o + k : Nat) = SnR τ k := by
    skip
    rcases Nat.eq_zero_or_pos i with z | z
    · subst z
      obtain ⟨q1, q2, q3⟩ := z3 n34
      simp only [if_true]
      refine ⟨⟨mn, by rw [hx6', if_pos (show ((0 + 1 : Nat) : Int) = 1 from rfl)]; exact emk, hmn2, mD⟩, ⟨B1, q1.trans s231, hB1l, b1D⟩, fun k hk hd => ⟨?_, by rw [q3 k hk]; exact s30 k⟩, fun k hk hd => by rw [q3 k hk, s30, bnS k hk hd]; exact base rfl k hk⟩
      rw [f6 k (Nat.zero_le _) hk, if_pos ⟨(bD k hk).mpr hd, rfl⟩]
      exact n16 k (bn3 k hd).1
    · obtain ⟨p1, p2, p3, p4⟩ := hFx z
      have zi : ¬ (0 = i) := by omega
      have ne1 : ¬ (((i + 1 : Nat) : Int) = 1) := by omega
      obtain ⟨q1, q2, q3⟩ := z4 (by rw [n34]; exact ne1)
      simp only [if_neg zi]
      refine ⟨by rw [hx6', if_neg ne1]; exact p1, by rw [q1, s38]; exact p2, fun k hk hd => ⟨?_, by rw [q2, s40 k hk]; exact (p3 k hk hd).2⟩, fun k hk hd => by rw [q2, s40 k hk]; exact p4 k hk hd⟩
      rw [f6 k (Nat.zero_le _) hk, if_neg (fun q => ne1 q.2), a7u]
      exact (p3 k hk hd).1
  have like : ((y = 0 ∧ 0 < i + 1) ∨ y = 1) ∧ (tA σ3 39 o = 0 ↔ y = 1) ∧ (y = 1 → (∀ j, j < i + 1 → ∀ k, k < 8 → ((if j = i then D else Di j) k ↔ (if 0 = i then D else Di 0) k)) ∧ (∀ j, j < i + 1 → ∀ k, k < 8 → (if 0 = i then D else Di 0) k → (if j = i then SnR σ1 else Sn j) k = (if 0 = i then SnR σ1 else Sn 0) k) ∧ ∀ k, k < 8 → (∀ j, j < i + 1 → ¬ (if j = i then D else Di j) k) → SnR σ3 k = SnR τ k) := by
    skip
    have yor : (y = 0 ∧ 0 < i + 1) ∨ y = 1 := by
      rcases f5 with q | q
      · exact Or.inl ⟨q, by omega⟩
      · exact Or.inr q
    refine ⟨yor, ?_⟩
    rw [a8.2] at f8
    rcases Nat.eq_zero_or_pos i with z | z
    · subst z
      obtain ⟨q1, q2, q3⟩ := z3 n34
      have ex : mk = x6' := by rw [hx6', if_pos (show ((0 + 1 : Nat) : Int) = 1 from rfl)]
      have x81 : x8 = 1 := by rcases hx8 with q | q <;> omega
      have y1 : y = 1 := f8.mpr ⟨⟨x81, ex⟩, fun j _ _ _ => Or.inl rfl⟩
      refine ⟨⟨fun _ => y1, fun _ => by rw [q2, s39]; exact h39.mpr x81⟩, fun _ => ⟨fun j hj k hk => ?_, fun j hj k hk hd => ?_, fun k hk hd => ?_⟩⟩
      · have ej : j = 0 := by omega
        subst ej
        exact Iff.rfl
      · have ej : j = 0 := by omega
        subst ej
        rfl
      · have := hd 0 (by omega)
        rw [if_pos rfl] at this
        rw [eS3, bnS k hk this]
        exact base rfl k hk
    · obtain ⟨⟨m0, p0, p1, p1'⟩, ⟨f0, p2, p2', p2''⟩, p3, p4⟩ := hFx z
      have zi : ¬ (0 = i) := by omega
      have ne1 : ¬ (((i + 1 : Nat) : Int) = 1) := by omega
      obtain ⟨q1, q2, q3⟩ := z4 (by rw [n34]; exact ne1)
      have ex6 : x6' = m0 := by rw [hx6', if_neg ne1]; exact p0
      have same : mk = x6' ↔ ∀ k, k < 8 → (D k ↔ Di 0 k) := by
        rw [emk, ex6]
        constructor
        · intro q k hk
          have q' : mn = m0 := Int.ofNat.inj q
          rw [← mD k hk, ← p1' k hk, q']
        · intro q
          refine congrArg Int.ofNat (bits_inj hmn2 p1 (fun k hk => ?_))
          have := q k hk
          rw [← mD k hk, ← p1' k hk] at this
          exact Bool.eq_iff_iff.mpr this
      have same2 : tI σ2 31 = tA σ2 38 o ↔ ∀ k, k < 8 → (D k ↔ Di 0 k) := by
        rw [s231, s38, p2]
        constructor
        · intro q k hk
          have q' : B1 = f0 := Int.ofNat.inj q
          have e1 := b1D k hk
          have e2 := p2'' k hk
          rw [← q'] at e2
          have e3 := e1.symm.trans e2
          constructor
          · intro hd
            rcases e3.mp (Or.inr hd) with y1 | y1
            · have := (b01 hB0 hk).2.mp (bn3 k hd).2
              rw [this] at y1; cases y1
            · exact y1
          · intro hd
            rcases e3.mpr (Or.inr hd) with y1 | y1
            · have := (b01 hB0 hk).2.mp (hn3 0 z k hd).2
              rw [this] at y1; cases y1
            · exact y1
        · intro q
          refine congrArg Int.ofNat (bits_inj hB1l p2' (fun k hk => ?_))
          have := q k hk
          refine Bool.eq_iff_iff.mpr ?_
          rw [b1D k hk, p2'' k hk, this]
      have key : (∀ k, k < 8 → (D k ↔ Di 0 k)) → ((∀ k, k < 8 → bit (tI σ2 31) k = 1 → bit (tA σ2 37 o) k = 0 → tA σ2 40 (8 * o + k : Nat) = tA σ2 30 (8 * nR σ1 + k : Nat)) ↔ ∀ k, k < 8 → D k → Sn 0 k = SnR σ1 k) := by
        intro q
        constructor
        · intro hh k hk hd
          have := hh k hk (by rw [s231, bn4 k hk]; exact Or.inr hd) (by rw [s37]; exact (bn3 k hd).2)
          rw [s40 k hk, s30, (p3 k hk ((q k hk).mp hd)).2] at this
          exact this
        · intro hh k hk h1 h2
          rw [s231, bn4 k hk] at h1
          rw [s37] at h2
          have hd : D k := by
            rcases h1 with y1 | y1
            · omega
            · exact y1
          rw [s40 k hk, s30, (p3 k hk ((q k hk).mp hd)).2]
          exact hh k hk hd
      have key2 : (∀ k, k < 8 → (D k ↔ Di 0 k)) → ((∀ j : Nat, 0 ≤ j → j < 8 → bit mk j = 1 → ((i + 1 : Nat) : Int) = 1 ∨ aI u2 (fR u2 16 p) j = aI u2 x7 j) ↔ ∀ k, k < 8 → D k → Sn 0 k = SnR σ1 k) := by
        intro q
        constructor
        · intro hh k hk hd
          rcases hh k (Nat.zero_le _) hk ((bD k hk).mpr hd) with y1 | y1
          · exact absurd y1 ne1
          · rw [n16 k (bn3 k hd).1, a7u, (p3 k hk ((q k hk).mp hd)).1] at y1
            exact y1.symm
        · intro hh k _ hk hb
          have hd := (bD k hk).mp hb
          refine Or.inr ?_
          rw [n16 k (bn3 k hd).1, a7u, (p3 k hk ((q k hk).mp hd)).1]
          exact (hh k hk hd).symm
      have fy : y = 1 ↔ x8 = 1 ∧ (∀ k, k < 8 → (D k ↔ Di 0 k)) ∧ ∀ k, k < 8 → D k → Sn 0 k = SnR σ1 k := by
        rw [f8, same]
        constructor
        · rintro ⟨⟨k1, k2⟩, k3⟩
          exact ⟨k1, k2, (key2 k2).mp k3⟩
        · rintro ⟨k1, k2, k3⟩
          exact ⟨⟨k1, k2⟩, (key2 k2).mpr k3⟩
      have f39 : tA σ3 39 o = 0 ↔ x8 = 1 ∧ (∀ k, k < 8 → (D k ↔ Di 0 k)) ∧ ∀ k, k < 8 → D k → Sn 0 k = SnR σ1 k := by
        rw [q3, s39, h39, same2]
        constructor
        · rintro ⟨k1, k2, k3⟩
          exact ⟨k1, k2, (key k2).mp k3⟩
        · rintro ⟨k1, k2, k3⟩
          exact ⟨k1, k2, (key k2).mpr k3⟩
      refine ⟨f39.trans fy.symm, fun hy => ?_⟩
      obtain ⟨k1, k2, k3⟩ := fy.mp hy
      obtain ⟨r1, r2, r3⟩ := hlk k1
      simp only [if_neg zi]
      refine ⟨fun j hj k hk => ?_, fun j hj k hk hd => ?_, fun k hk hd => ?_⟩
      · by_cases y1 : j = i
        · rw [if_pos y1]; exact k2 k hk
        · rw [if_neg y1]; exact r1 j (by omega) k hk
      · by_cases y1 : j = i
        · rw [if_pos y1]; exact (k3 k hk ((k2 k hk).mpr hd)).symm
        · rw [if_neg y1]; exact r2 j (by omega) k hk hd
      · have d1 := hd i (by omega)
        rw [if_pos rfl] at d1
        rw [eS3, bnS k hk d1]
        refine r3 k hk (fun j hj => ?_)
        have := hd j (by omega)
        rw [if_neg (by omega)] at this
        exact this
  refine ⟨σ2, σ3, u3, y, mk, x6', F2, F3, n32, n33, n17, run2, run3, hmk, hx6', ⟨f1, f2, f3, f4.1, f4.2⟩, fun Q X I42 hh => bC_X0_either_130 (fun I cl => run130 Q X I42 I cl hh), ⟨⟨hC3, U3, R3, lt3⟩, ⟨⟨(row1 17 (by decide) (by decide) (by decide) (by decide) (by decide)).trans g17, (row1 18 (by decide) (by decide) (by decide) (by decide) (by decide)).trans g18, ?_, (row1 24 (by decide) (by decide) (by decide) (by decide) (by decide)).trans g24, (row1 25 (by decide) (by decide) (by decide) (by decide) (by decide)).trans g25⟩, ⟨(opn1 33 (by decide) (by decide) (by decide) (by decide)).trans l33, (g3 34 (by decide) (by decide) (by decide) _).trans n34, ?_, (opn1 36 (by decide) (by decide) (by decide) (by decide)).trans l36, (opn1 37 (by decide) (by decide) (by decide) (by decide)).trans l37⟩, fun j hj => ?_⟩, ⟨?_, fun k hk => ?_, fun j hj k hk => ?_⟩, fun _ => first, like, ⟨?_, ?_, ?_, ?_⟩, cA⟩, P2.arr K3 c23 (by omega) rb3 (by decide)⟩
  · rw [g3 23 (by decide) (by decide) (by decide), e23 _ (Nat.le_refl _), U1.1 23 (by decide) (by decide) _ hlt]
    exact g23
  · rw [g3 35 (by decide) (by decide) (by decide), q35, if_pos rfl, if_neg (Nat.succ_ne_zero i)]
    show (np σ : Int) = ((if i + 1 - 1 = i then np σ else c (i + 1 - 1) : Nat) : Int)
    rw [if_pos (by omega)]
  · rw [g3 18 (by decide) (by decide) (by decide), (F2 18 (by decide)).2]
    show tA σ1 18 ((if j = i then np σ else c j : Nat) : Int) = s
    by_cases z : j = i
    · rw [if_pos z]; exact m18
    · rw [if_neg z, U1.1 18 (by decide) (by decide) _ (hci j (by omega)).2]
      exact hps j (by omega)
  · rw [eN3]
    refine ⟨Nat.le_trans hn1.1 bn.1.1, fun k hk => ?_⟩
    rcases bn.1.2 k hk with q | q
    · rcases hn1.2 k q with q2 | ⟨j, hj, q2⟩
      · exact Or.inl q2
      · exact Or.inr ⟨j, by omega, by show (if j = i then D else Di j) k; rw [if_neg (by omega)]; exact q2⟩
    · exact Or.inr ⟨i, by omega, by show (if i = i then D else Di i) k; rw [if_pos rfl]; exact q⟩
  · rw [(F13 29 (by decide)).2]
    have := bn.2.1 k (by omega)
    rw [hRR] at this
    exact this.trans (hn2 k hk)
  · rw [eN3]
    have hk : (if j = i then D else Di j) k := hk
    by_cases z : j = i
    · rw [if_pos z] at hk; exact bn3 k hk
    · rw [if_neg z] at hk
      have := hn3 j (by omega) k hk
      have := bn.1
      exact ⟨by omega, (hn3 j (by omega) k hk).2⟩
  · exact ((ob.etg (f1.2.2.2.2 a (rb2.1.le (by rw [eu2]; show tg u1 a ≠ 0; rw [ta1]; decide)) (by simp; omega))).trans (by rw [eu2]; rfl)).trans ta1
  · exact ((ob.eln (f1.2.2.2.2 a (rb2.1.le (by rw [eu2]; show tg u1 a ≠ 0; rw [ta1]; decide)) (by simp; omega))).trans (by rw [eu2]; rfl)).trans la1
  · exact (f1.2.2.2.1 x7 (rb2.1.le (by rw [t72]; decide))).1.trans t72
  · exact (f1.2.2.2.1 x7 (rb2.1.le (by rw [t72]; decide))).2.trans (by rw [eu2]; exact l71)
end ZEith3
