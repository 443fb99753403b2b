/-! what begins a pattern: the reference's -/
section ZBegins
variable {p e : Nat} {w : CW} {τ : TW}
/-- rows of patterns, how many -/
def np (τ : TW) : Nat := (tI τ 16).toNat
/-- a new row -/
noncomputable def nwT (τ : TW) (kd s : Int) : TW := sA (sA (sA (sA (sA (sA (sA (sA (sA (sA (sI τ 16 (np τ + 1 : Nat)) 17 (np τ) kd) 18 (np τ) s) 19 (np τ) 0) 20 (np τ) 0) 21 (np τ) 0) 22 (np τ) (-4)) 23 (np τ) (-4)) 24 (np τ) (-4)) 25 (np τ) (-4)) 26 (np τ) 1
theorem nwT_ft (τ : TW) (kd s : Int) : FT [16, 17, 18, 19, 20, 21, 22, 23, 24, 25, 26] τ (nwT τ kd s) := by
  unfold nwT
  exact ((((((((((((FT.refl _ τ).ssI (by decide)).ssA (by decide)).ssA (by decide)).ssA (by decide)).ssA (by decide)).ssA (by decide)).ssA (by decide)).ssA (by decide)).ssA (by decide)).ssA (by decide)).ssA (by decide))
theorem nwT_np (τ : TW) (kd s : Int) : tI (nwT τ kd s) 16 = (np τ + 1 : Nat) ∧ np (nwT τ kd s) = np τ + 1 := by
  have : tI (nwT τ kd s) 16 = (np τ + 1 : Nat) := rfl
  exact ⟨this, by unfold np; rw [show tI (nwT τ kd s) 16 = (np τ + 1 : Nat) from this]; rfl⟩
theorem nwT_old (τ : TW) (kd s : Int) (f x : Nat) (hx : x ≠ np τ) : tA (nwT τ kd s) f x = tA τ f x := by
  have h : ∀ (σ : TW) (g : Nat) (y : Int), tA (sA σ g (np τ) y) f x = tA σ f x := fun σ g y => by rw [tA_sA, if_neg (by omega)]
  unfold nwT
  rw [h, h, h, h, h, h, h, h, h, h, tA_sI]
theorem nwT_new (τ : TW) (kd s : Int) : tA (nwT τ kd s) 17 (np τ) = kd ∧ tA (nwT τ kd s) 18 (np τ) = s ∧ tA (nwT τ kd s) 19 (np τ) = 0 ∧ tA (nwT τ kd s) 20 (np τ) = 0 ∧ tA (nwT τ kd s) 21 (np τ) = 0 ∧ tA (nwT τ kd s) 22 (np τ) = -4 ∧ tA (nwT τ kd s) 23 (np τ) = -4 ∧ tA (nwT τ kd s) 24 (np τ) = -4 ∧ tA (nwT τ kd s) 25 (np τ) = -4 ∧ tA (nwT τ kd s) 26 (np τ) = 1 := by
  unfold nwT
  simp [tA_sA]
theorem sT_new {d : Nat} {kd s : Int} {Q : ZRes → TW → Prop} (h : tI τ 16 = np τ) (hn : np τ < 1700) (hQ : Q (.inl (some (ai (np τ)))) (nwT τ kd s)) : wpT (d + 1) 27 [ai kd, ai s] τ Q := by
  have r : (0 : Int) ≤ np τ ∧ (np τ : Int) < 1700 := by omega
  have e1 : w32 ((np τ : Int) + 1) = ((np τ + 1 : Nat) : Int) := w32_k (by omega)
  refine wT_newPattern (Nat.zero_le _) (bT_newPattern_0 (fa (fa ?_)))
  rw [h, e1]
  exact ⟨r, fa ⟨r, fa ⟨r, fa ⟨r, fa ⟨r, fa ⟨r, fa ⟨r, fa ⟨r, fa ⟨r, fa ⟨r, fa hQ⟩⟩⟩⟩⟩⟩⟩⟩⟩⟩
/-- a number, a truth at hand; what may begin a pattern; what can't stand for the sort s -/
noncomputable def b6 (w : TW) : Int := if ((tI w 3) = 3) ∨ (¬ ((ff_isSign 45 w) = 0)) then 1 else 0
noncomputable def b13 (w : TW) : Int := if ¬ ((ff_isWord 8 w) = 0) ∨ (¬ ((ff_isWord 9 w) = 0)) then 1 else 0
def b26 (w : TW) : Prop := ¬ (b6 w = 0) ∨ (¬ (b13 w = 0) ∨ (((tI w 3) = 4) ∨ (((tI w 3) = 1) ∨ (((tI w 3) = 2) ∨ (¬ ((ff_isSign 95 w) = 0) ∨ (¬ ((ff_isSign 40 w) = 0) ∨ (¬ ((ff_isWord 10 w) = 0))))))))
def b34 (x1 : Int) (w : TW) : Prop := (((b6 w) = 0) ∧ ((((b13 w) = 0) ∧ ((((tI w 3) = 4) ∧ (¬ (x1 = 2) ∨ (¬ ((ff_isWord 10 w) = 0) ∧ (¬ (3 ≤ x1))))) ∨ (¬ ((tI w 3) = 4) ∧ (¬ ((ff_isWord 10 w) = 0) ∧ (¬ (3 ≤ x1)))))) ∨ (¬ ((b13 w) = 0) ∧ (¬ (x1 = 1) ∨ ((((tI w 3) = 4) ∧ (¬ (x1 = 2) ∨ (¬ ((ff_isWord 10 w) = 0) ∧ (¬ (3 ≤ x1))))) ∨ (¬ ((tI w 3) = 4) ∧ (¬ ((ff_isWord 10 w) = 0) ∧ (¬ (3 ≤ x1))))))))) ∨ (¬ ((b6 w) = 0) ∧ (¬ (x1 = 0) ∨ ((((b13 w) = 0) ∧ ((((tI w 3) = 4) ∧ (¬ (x1 = 2) ∨ (¬ ((ff_isWord 10 w) = 0) ∧ (¬ (3 ≤ x1))))) ∨ (¬ ((tI w 3) = 4) ∧ (¬ ((ff_isWord 10 w) = 0) ∧ (¬ (3 ≤ x1)))))) ∨ (¬ ((b13 w) = 0) ∧ (¬ (x1 = 1) ∨ ((((tI w 3) = 4) ∧ (¬ (x1 = 2) ∨ (¬ ((ff_isWord 10 w) = 0) ∧ (¬ (3 ≤ x1))))) ∨ (¬ ((tI w 3) = 4) ∧ (¬ ((ff_isWord 10 w) = 0) ∧ (¬ (3 ≤ x1)))))))))) 
/-- into begins -/
theorem bg0 {x1 x2 : Int} {Q : ZRes → TW → Prop} (h26 : b26 τ) (hQ : ∀ v34 : Int, (v34 = 0 ↔ ¬ b34 x1 τ) →
    ((tI τ 3) = 2 → wpT (e + 7) 14 [al (tI τ 4)] τ (zqI (fun v130 u129 => pT_begins_209 (wpT (e + 7)) (fun v w => Q (.inl (some (ai v))) w) x1 x2 (tI τ 5) (b6 τ) (b13 τ) v34 v130 u129) zno)) ∧
    (¬ ((tI τ 3) = 2) → pT_begins_209 (wpT (e + 7)) (fun v w => Q (.inl (some (ai v))) w) x1 x2 (tI τ 5) (b6 τ) (b13 τ) v34 (-4) τ)) : wpT (e + 8) 25 [ai x1, ai x2] τ Q := by
  refine wT_begins (by omega) (bT_begins_0 (fa (fa (fa (fa ?_)))))
  refine br0 (fun y => absurd ((if_pos (α := Int) h26).symm.trans y) (by decide)) (fa ?_)
  exact hQ _ ⟨fun h z => absurd ((if_pos (α := Int) z).symm.trans h) (by decide), fun z => if_neg z⟩
/-- behind the judgement of what begins, with a fault -/
theorem dd283 {x1 x2 x3 x8 : Int} (hn : tI τ 16 = np τ ∧ np τ < 1700) (hf : tI τ 7 ≠ 0) : ∃ σ', FT [16, 17, 18, 19, 20, 21, 22, 23, 24, 25, 26] τ σ' ∧ ∀ Q : Int → TW → Prop, (Q (-4) σ' → pT_begins_283 (wpT (e + 7)) Q x1 x2 x3 (b6 τ) (b13 τ) x8 τ) := by
  obtain ⟨kd, hkd⟩ : ∃ kd : Int, kd = (if b6 τ = 0 then (if b13 τ = 0 then (if (tI τ 3) = 4 then 3 else (if (tI τ 3) = 2 then 5 else (if (ff_isSign 40 τ) = 0 then (if (ff_isWord 10 τ) = 0 then 0 else 4) else 6))) else 2) else 1) := ⟨_, rfl⟩
  have F := nwT_ft τ kd x1
  have hf' : tI (nwT τ kd x1) 7 ≠ 0 := by rw [(F 7 (by decide)).1]; exact hf
  refine ⟨nwT τ kd x1, F, fun Q hQ => bT_begins_283 (fa ?_)⟩
  rw [← hkd]
  refine sT_new (d := e + 6) hn.1 hn.2 (br0 (fun y => hf' y.2) (bT_begins_409 ⟨fun _ => bT_begins_420 (br0 hf' hQ), fun _ => ?_⟩))
  obtain ⟨τ', ⟨_, _, c⟩, run⟩ := sT_fails (d := e + 6) (τ := nwT τ kd x1) (k := 9) (pl := x3)
  have := c hf'
  subst this
  exact run _ (bT_begins_420 (br0 hf' hQ))
/-- without a fault, and no name: the row is there -/
theorem bg283 {x1 x3 x8 : Int} {Q : Int → TW → Prop} {kd : Int} (hn : tI τ 16 = np τ ∧ np τ < 1700) (hf : tI τ 7 = 0) (h1 : tI τ 3 ≠ 1) (hkd : kd = (if b6 τ = 0 then (if b13 τ = 0 then (if (tI τ 3) = 4 then 3 else (if (tI τ 3) = 2 then 5 else (if (ff_isSign 40 τ) = 0 then (if (ff_isWord 10 τ) = 0 then 0 else 4) else 6))) else 2) else 1))
    (hQ : pT_begins_450 (wpT (e + 7)) Q x3 (b6 τ) x8 (np τ) (nwT τ kd x1)) : pT_begins_283 (wpT (e + 7)) Q x1 0 x3 (b6 τ) (b13 τ) x8 τ := by
  have F := nwT_ft τ kd x1
  have hf' : tI (nwT τ kd x1) 7 = 0 := (F 7 (by decide)).1.trans hf
  have h1' : ¬ tI (nwT τ kd x1) 3 = 1 := by rw [(F 3 (by decide)).1]; exact h1
  refine bT_begins_283 (fa ?_)
  rw [← hkd]
  exact sT_new (d := e + 6) hn.1 hn.2 (br0 (fun y => h1' y.1) (bT_begins_409 (br1 rfl (bT_begins_420 (br1 hf' (br0 h1' hQ))))))
/-- one too many -/
theorem bgMuch {x1 x2 x3 x8 : Int} (h : RB p w τ) (hn : tI τ 16 = np τ ∧ np τ < 1700) (h1 : tI τ 3 ≠ 1) (hx : x2 ≠ 0) : ∃ σ', FT [7, 8, 16, 17, 18, 19, 20, 21, 22, 23, 24, 25, 26] τ σ' ∧ Dd 9 x3 σ' ∧ tI σ' 7 ≠ 0 ∧ ∀ Q : Int → TW → Prop, (Q (-4) σ' → pT_begins_283 (wpT (e + 7)) Q x1 x2 x3 (b6 τ) (b13 τ) x8 τ) := by
  obtain ⟨kd, hkd⟩ : ∃ kd : Int, kd = (if b6 τ = 0 then (if b13 τ = 0 then (if (tI τ 3) = 4 then 3 else (if (tI τ 3) = 2 then 5 else (if (ff_isSign 40 τ) = 0 then (if (ff_isWord 10 τ) = 0 then 0 else 4) else 6))) else 2) else 1) := ⟨_, rfl⟩
  have F := nwT_ft τ kd x1
  have h1' : ¬ tI (nwT τ kd x1) 3 = 1 := by rw [(F 3 (by decide)).1]; exact h1
  have hh := h.ft F (by decide)
  obtain ⟨σ', ⟨a, b, c⟩, run⟩ := RB.fails (e := e + 6) (pl := x3) hh (k := 9) (by decide)
  refine ⟨σ', (F.mono (by decide)).trans (a.mono (by decide)), b, c, fun Q hQ => bT_begins_283 (fa ?_)⟩
  rw [← hkd]
  exact sT_new (d := e + 6) hn.1 hn.2 (br0 (fun y => h1' y.1) (bT_begins_409 (br0 hx (run _ (bT_begins_420 (br0 c hQ))))))
/-- a fault at what begins: how, at its place -/
theorem bgF {x1 x2 x3 x8 : Int} (h : RB p w τ) (hn : tI τ 16 = np τ ∧ np τ < 1700) {k : Int} (hk : 1 ≤ k) : ∃ σ', FT [7, 8, 16, 17, 18, 19, 20, 21, 22, 23, 24, 25, 26] τ σ' ∧ Dd k x3 σ' ∧ tI σ' 7 ≠ 0 ∧ ∀ Q : Int → TW → Prop, (Q (-4) σ' → wpT (e + 7) 13 [ai k, ai x3] τ (zqV (fun u => pT_begins_283 (wpT (e + 7)) Q x1 x2 x3 (b6 τ) (b13 τ) x8 u) zno)) := by
  obtain ⟨σ1, ⟨a, b, c⟩, run⟩ := RB.fails (e := e + 6) (pl := x3) h hk
  have e6 : b6 σ1 = b6 τ := by
    unfold b6 ff_isSign
    rw [(a 3 (by decide)).1, (a 4 (by decide)).1]
  have e13 : b13 σ1 = b13 τ := by
    unfold b13 ff_isWord
    rw [(a 3 (by decide)).1, (a 4 (by decide)).1]
  have en : np σ1 = np τ := by unfold np; rw [(a 16 (by decide)).1]
  obtain ⟨σ2, F2, run2⟩ := dd283 (e := e) (x1 := x1) (x2 := x2) (x3 := x3) (x8 := x8) (τ := σ1) (by rw [en, (a 16 (by decide)).1]; exact hn) c
  refine ⟨σ2, (a.mono (by decide)).trans (F2.mono (by decide)), b.ft F2 (by decide), by rw [(F2 7 (by decide)).1]; exact c, fun Q hQ => run _ ?_⟩
  have := run2 Q hQ
  rw [e6, e13] at this
  exact this
end ZBegins
