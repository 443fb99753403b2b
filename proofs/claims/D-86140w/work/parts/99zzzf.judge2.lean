/-! judge: the reference's loops -/
section ZJudge2
variable {p b e d : Nat} {w : CW} {τ : TW}
def BX (τ : TW) (B : Int → Int) : Prop := ∀ R : Nat, tA τ 54 R ≠ 2 → B R = tA τ 55 R
def OKB (τ : TW) (B : Int → Int) (f i : Nat) : Prop := tA τ 54 (16 * f + i : Nat) = 2 → B (16 * f + i : Nat) = fnB τ (tA τ 56 (16 * f + i : Nat))
/-- answerValue, as far as rules are judged -/
noncomputable def BsI (τ : TW) (f : Nat) (B : Int → Int) : Nat → Int → Int
  | 0 => B
  | i + 1 => if tA τ 54 (16 * f + i : Nat) = 2 then uB τ (16 * f + i) (BsI τ f B i) else BsI τ f B i
noncomputable def BsF (τ : TW) : Nat → Int → Int
  | 0 => tA τ 55
  | f + 1 => BsI τ f (BsF τ f) (rk τ f)
def DB (τ : TW) (B : Int → Int) (f i : Nat) : Prop := (∀ f' i', f' < f → i' < rk τ f' → OKB τ B f' i') ∧ (∀ i', i' < i → OKB τ B f i') ∧ B = BsI τ f (BsF τ f) i
theorem BX.up {B : Int → Int} {R : Nat} (h : BX τ B) (h2 : tA τ 54 R = 2) : BX τ (uB τ R B) := by
  intro R' h'
  unfold uB
  split
  · exact h R' h'
  · have : R' ≠ R := fun z => h' (by rw [z]; exact h2)
    show (if (R' : Int) = R then _ else B R') = _
    rw [if_neg (by omega)]
    exact h R' h'
theorem DB.up {B : Int → Int} {f i : Nat} (hr : ∀ f', f' ≤ f → rk τ f' ≤ 16) (hi : i < rk τ f) (h2 : tA τ 54 (16 * f + i : Nat) = 2) (h : DB τ B f i) (hj : (jc τ (16 * f + i)).1 = 0) : DB τ (uB τ (16 * f + i) B) f (i + 1) := by
  have hne : fnB τ (tA τ 56 (16 * f + i : Nat)) ≠ -4 := fun z => by rw [jc_4 z] at hj; exact absurd hj (show (4 : Int) ≠ 0 by decide)
  have eB : uB τ (16 * f + i) B = fun y => if y = ((16 * f + i : Nat) : Int) then fnB τ (tA τ 56 (16 * f + i : Nat)) else B y := if_neg hne
  have i16 := hr f (Nat.le_refl _)
  have es : uB τ (16 * f + i) B = BsI τ f (BsF τ f) (i + 1) := by
    show _ = (if tA τ 54 (16 * f + i : Nat) = 2 then _ else _)
    rw [if_pos h2, ← h.2.2]
  refine ⟨?_, ?_, es⟩ <;> rw [eB]
  · intro f' i' q1 q2 z
    have := hr f' (by omega)
    show (if ((16 * f' + i' : Nat) : Int) = ((16 * f + i : Nat) : Int) then _ else _) = _
    rw [if_neg (by omega)]
    exact h.1 f' i' q1 q2 z
  intro i' q z
  show (if ((16 * f + i' : Nat) : Int) = ((16 * f + i : Nat) : Int) then _ else _) = _
  by_cases y : i' = i
  · subst y; rw [if_pos rfl]
  · rw [if_neg (by omega)]
    exact h.2.1 i' (by omega) z
theorem judge_in (hN : FN p w τ) (hK : KR p w τ) {f : Nat} (hf : f < nF τ) {b : Int} {A B : Int → Int} {Q : TW → Prop} {I2 : Int → TW → Prop} (hQ : ∀ B', BX τ B' → ((ff (chk τ f) (rk τ f)).1 = 0 → DB τ B' f (rk τ f)) → pT_judge_60 (wpT (e + 2)) Q I2 f (tF τ (ff (chk τ f) (rk τ f)) b A B')) (hB : BX τ B) (hD : DB τ B f 0) : pT_judge_12 (wpT (e + 2)) Q I2 f 0 (t4 τ 0 b A B) := by
  have n12 : nF τ ≤ 12 := hN.2.2.2.1
  have hr16 : ∀ f', f' ≤ f → rk τ f' ≤ 16 := fun f' q => (hN.gl (f := f') (by omega)).2.2.2.1
  obtain ⟨a1, a2, a3, a4, a5, a6, a7⟩ := hN.gl hf
  refine bT_judge_12 ?_
  intro I hI
  have fin : ∀ j : Nat, (j = rk τ f ∨ (ff (chk τ f) j).1 ≠ 0) → j ≤ rk τ f → ∀ B', BX τ B' → ((ff (chk τ f) j).1 = 0 → DB τ B' f j) → I (j : Int) (tF τ (ff (chk τ f) j) b A B') := by
    intro j hj hjn B' hB hD
    have e : ff (chk τ f) j = ff (chk τ f) (rk τ f) := by
      rcases hj with h | h
      · rw [h]
      · exact (ff_stay h _ hjn).symm
    refine hI _ _ ⟨by omega, br0 ?_ ?_⟩
    · show ¬ (¬ tA τ 45 f ≤ j ∧ (ff (chk τ f) j).1 = 0)
      rcases hj with h | h
      · omega
      · exact fun q => h q.2
    · rw [e]
      refine hQ B' hB (fun z => ?_)
      rw [← e] at z
      rcases hj with h | h
      · rw [← h]; exact hD z
      · exact absurd z h
  have key : ∀ k j : Nat, j + k = rk τ f → ∀ B', BX τ B' → ((ff (chk τ f) j).1 = 0 → DB τ B' f j) → I (j : Int) (tF τ (ff (chk τ f) j) b A B') := by
    intro k
    induction k with
    | zero => exact fun j hj => fin j (Or.inl (by omega)) (by omega)
    | succ k ih =>
      intro j hj B' hB hD
      by_cases hz : (ff (chk τ f) j).1 = 0
      · have hj' : j < rk τ f := by omega
        obtain ⟨_, _, hr⟩ := a7 j hj'
        have next := ih (j + 1) (by omega)
        rw [ff_go hz] at next
        rw [tF_0 hz]
        have ix := jx 16 f j (by omega) (by decide)
        refine hI _ _ ⟨by omega, br1 ⟨?_, rfl⟩ ?_⟩
        · show ¬ tA τ 45 f ≤ j
          omega
        rw [show w32 (w32 (16 * (f : Int)) + (j : Int)) = ((16 * f + j : Nat) : Int) from ix]
        refine ⟨by omega, ?_⟩
        show (tA τ 54 (16 * f + j : Nat) = 2 → _) ∧ (¬ tA τ 54 (16 * f + j : Nat) = 2 → _)
        by_cases h2 : tA τ 54 (16 * f + j : Nat) = 2
        · obtain ⟨s, -⟩ := hN.scf hK hf hr h2
          have ec : chk τ f j = jc τ (16 * f + j) := if_pos h2
          refine br1 h2 (sT_judgeAnswer (τ := τ) (d := e) hN s hK (by omega) (bT_judge_54 (call := wpT (e + 2)) (Q := Q) (I2 := I2) (x1 := f) (fa ?_)))
          rw [w32_s (by omega) (by omega)]
          have := next (uB τ (16 * f + j) B') (hB.up h2) (fun z => (hD hz).up hr16 hj' h2 (by rw [← ec]; exact z))
          rw [ec] at this
          exact this
        · have ec : chk τ f j = (0, 0) := if_neg h2
          refine br0 h2 (bT_judge_54 (fa ?_))
          rw [w32_s (by omega) (by omega)]
          have := next B' hB (fun _ => ⟨(hD hz).1, fun i' q => by
            rcases Nat.lt_or_ge i' j with y | y
            · exact (hD hz).2.1 i' y
            · rw [show i' = j by omega]
              exact fun z => absurd z h2, by
            show _ = (if tA τ 54 (16 * f + j : Nat) = 2 then _ else _)
            rw [if_neg h2]
            exact (hD hz).2.2⟩)
          rw [ec, tF_0 rfl] at this
          exact this
      · exact fin j (Or.inr hz) (by omega) B' hB hD
  have := key (rk τ f) 0 (by omega) B hB (fun _ => hD)
  rw [show ff (chk τ f) 0 = (0, 0) from rfl, tF_0 rfl] at this
  exact this
/-- with a fault at hand the first loop does nothing -/
theorem judge_dead (hN : FN p w τ) {f : Nat} (hf : f < nF τ) {σ : TW} (h7 : tI σ 7 ≠ 0) {Q : TW → Prop} {I2 : Int → TW → Prop} (hQ : I2 ((f + 1 : Nat) : Int) σ) : pT_judge_12 (wpT (e + 2)) Q I2 f 0 σ := by
  have n12 : nF τ ≤ 12 := hN.2.2.2.1
  refine bT_judge_12 ?_
  intro I hI
  refine hI _ _ ⟨by omega, br0 (fun q => h7 q.2) (bT_judge_60 (fa ?_))⟩
  rw [w32_s (by omega) (by omega)]
  exact hQ
theorem judge_dead2 (hN : FN p w τ) {f : Nat} (hf : f < nF τ) {σ : TW} (h7 : tI σ 7 ≠ 0) {Q : TW → Prop} {I2 : Int → TW → Prop} (hQ : I2 ((f + 1 : Nat) : Int) σ) : pT_judge_85 (wpT (e + 2)) Q I2 f 0 σ := by
  have n12 : nF τ ≤ 12 := hN.2.2.2.1
  refine bT_judge_85 ?_
  intro I hI
  refine hI _ _ ⟨by omega, br0 (fun q => h7 q.2) (bT_judge_156 (fa ?_))⟩
  rw [w32_s (by omega) (by omega)]
  exact hQ
/-- rows' numbers, as far as functions are judged -/
def AsF (τ : TW) : Nat → Int → Int
  | 0 => tA τ 46
  | f + 1 => fun y => if y = (f : Int) then sumR τ f (rk τ f) else AsF τ f y
def DA (τ : TW) (A : Int → Int) (f : Nat) : Prop := A = AsF τ f
theorem AsF_at : ∀ f f' : Nat, f' < f → AsF τ f f' = sumR τ f' (rk τ f') := by
  intro f
  induction f with
  | zero => intro f' h; omega
  | succ f ih =>
    intro f' h
    show (if (f' : Int) = (f : Int) then _ else AsF τ f f') = _
    by_cases z : f' = f
    · subst z; rw [if_pos rfl]
    · rw [if_neg (by omega)]
      exact ih f' (by omega)
theorem judge_in2 (hN : FN p w τ) {f : Nat} (hf : f < nF τ) {b : Int} {A B : Int → Int} {Q : TW → Prop} {I2 : Int → TW → Prop} (hQ : ∀ A', ((ff (rchk τ f) (rk τ f)).1 = 0 → DA τ A' (f + 1)) → pT_judge_156 (wpT (e + 2)) Q I2 f (tF τ (ff (rchk τ f) (rk τ f)) b A' B)) (hA : A = fun y => if y = (f : Int) then sumR τ f 0 else AsF τ f y) : pT_judge_85 (wpT (e + 2)) Q I2 f 0 (t4 τ 0 b A B) := by
  have n12 : nF τ ≤ 12 := hN.2.2.2.1
  obtain ⟨a1, a2, a3, a4, a5, a6, a7⟩ := hN.gl hf
  refine bT_judge_85 ?_
  intro I hI
  have fin : ∀ j : Nat, (j = rk τ f ∨ (ff (rchk τ f) j).1 ≠ 0) → j ≤ rk τ f → ∀ A', ((ff (rchk τ f) j).1 = 0 → A' = fun y => if y = (f : Int) then sumR τ f j else AsF τ f y) → I (j : Int) (tF τ (ff (rchk τ f) j) b A' B) := by
    intro j hj hjn A' hD
    have e : ff (rchk τ f) j = ff (rchk τ f) (rk τ f) := by
      rcases hj with h | h
      · rw [h]
      · exact (ff_stay h _ hjn).symm
    refine hI _ _ ⟨by omega, br0 ?_ ?_⟩
    · show ¬ (¬ tA τ 45 f ≤ j ∧ (ff (rchk τ f) j).1 = 0)
      rcases hj with h | h
      · omega
      · exact fun q => h q.2
    · rw [e]
      refine hQ A' (fun z => ?_)
      rw [← e] at z
      rcases hj with h | h
      · have := hD z
        rw [h] at this
        exact this
      · exact absurd z h
  have sge : ∀ j, j ≤ rk τ f → 0 ≤ sumR τ f j := by
    intro j hj
    have := cS_sum (τ := τ) (f := f) j (fun i hi => (rur_rows (a7 i (by omega)).choose_spec.choose_spec).1)
    omega
  have key : ∀ k j : Nat, j + k = rk τ f → ∀ A', ((ff (rchk τ f) j).1 = 0 → A' = fun y => if y = (f : Int) then sumR τ f j else AsF τ f y) → I (j : Int) (tF τ (ff (rchk τ f) j) b A' B) := by
    intro k
    induction k with
    | zero => exact fun j hj => fin j (Or.inl (by omega)) (by omega)
    | succ k ih =>
      intro j hj A' hD
      by_cases hz : (ff (rchk τ f) j).1 = 0
      · have hj' : j < rk τ f := by omega
        have hr := rur_rows (a7 j hj').choose_spec.choose_spec
        have next := ih (j + 1) (by omega)
        rw [ff_go hz] at next
        rw [tF_0 hz]
        have dA := hD hz
        have d2 : A' f = sumR τ f j := by rw [dA]; exact if_pos rfl
        have ix := jx 16 f j (by omega) (by decide)
        have s0 := sge j (by omega)
        have s40 : sumR τ f j ≤ 40 := by
          rcases Nat.eq_zero_or_pos j with y | y
          · rw [y]; exact (by decide : (0 : Int) ≤ 40)
          · have := ff_zero j hz (j - 1) (by omega)
            unfold rchk at this
            rw [show j - 1 + 1 = j by omega] at this
            by_cases z : 40 < sumR τ f j
            · rw [if_pos z] at this
              exact absurd this (show (9 : Int) ≠ 0 by decide)
            · omega
        have es : sumR τ f (j + 1) = sumR τ f j + tA τ 49 (16 * f + j : Nat) := rfl
        refine hI _ _ ⟨by omega, br1 ⟨?_, rfl⟩ ?_⟩
        · show ¬ tA τ 45 f ≤ j
          omega
        rw [show w32 (w32 (16 * (f : Int)) + (j : Int)) = ((16 * f + j : Nat) : Int) from ix]
        refine ⟨by omega, by omega, by omega, fa ?_⟩
        have e46 : w32 (tA (t4 τ 0 b A' B) 46 f + tA (t4 τ 0 b A' B) 49 ((16 * f + j : Nat) : Int)) = sumR τ f (j + 1) := by
          show w32 (A' f + tA τ 49 ((16 * f + j : Nat) : Int)) = _
          rw [d2, w32_s (by omega) (by omega), es]
        rw [e46, t4_46]
        obtain ⟨A2, hA2⟩ : ∃ A2 : Int → Int, A2 = fun y => if y = (f : Int) then sumR τ f (j + 1) else A' y := ⟨_, rfl⟩
        have g1 : A2 f = sumR τ f (j + 1) := by rw [hA2]; exact if_pos rfl
        have g2 : A2 = fun y => if y = (f : Int) then sumR τ f (j + 1) else AsF τ f y := by
          rw [hA2, dA]
          funext y
          by_cases z : y = (f : Int)
          · simp only [if_pos z]
          · simp only [if_neg z]
        rw [← hA2]
        have nx := next A2 (fun _ => g2)
        have e2 : tA (t4 τ 0 b A2 B) 46 f = sumR τ f (j + 1) := g1
        rw [e2]
        refine ⟨by omega, ?_⟩
        by_cases z : 40 < sumR τ f (j + 1)
        · have er : rchk τ f j = (9, tA τ 48 (16 * f + j : Nat)) := if_pos z
          rw [er, tF_1 (show (9 : Int) ≠ 0 by decide)] at nx
          refine br0 (by omega) ⟨by omega, sT_fails0 (bT_judge_150 (call := wpT (e + 2)) (Q := Q) (I68 := I2) (x1 := f) (fa ?_))⟩
          rw [w32_s (by omega) (by omega)]
          exact nx
        · have er : rchk τ f j = (0, 0) := if_neg z
          rw [er, tF_0 rfl] at nx
          refine br1 (by omega) (bT_judge_150 (fa ?_))
          rw [w32_s (by omega) (by omega)]
          exact nx
      · exact fin j (Or.inr hz) (by omega) A' hD
  have := key (rk τ f) 0 (by omega) A (fun _ => hA)
  rw [show ff (rchk τ f) 0 = (0, 0) from rfl, tF_0 rfl] at this
  exact this
theorem sT_judge (hN : FN p w τ) (hK : KR p w τ) (h7 : tI τ 7 = 0) {Q : ZRes → TW → Prop} (hQ : ∀ A B, BX τ B → ((jall τ).1 = 0 → DA τ A (nF τ) ∧ B = BsF τ (nF τ) ∧ ∀ f i, f < nF τ → i < rk τ f → OKB τ B f i) → Q (.inl none) (tF τ (jall τ) (tI τ 8) A B)) : wpT (e + 3) 43 [] τ Q := by
  have n12 : nF τ ≤ 12 := hN.2.2.2.1
  have n41 : tI τ 41 = nF τ := hN.2.2.1
  refine wT_judge (Nat.zero_le _) (bT_judge_0 (bT_judge_2 ?_))
  intro I hI
  have two : ∀ B, BX τ B → ((all1 τ (nF τ)).1 = 0 → B = BsF τ (nF τ) ∧ ∀ f i, f < nF τ → i < rk τ f → OKB τ B f i) → pT_judge_66 (wpT (e + 2)) (fun w => Q (.inl none) w) (tF τ (all1 τ (nF τ)) (tI τ 8) (tA τ 46) B) := by
    intro B hB hO
    refine bT_judge_66 (bT_judge_68 ?_)
    intro J hJ
    by_cases z1 : (all1 τ (nF τ)).1 = 0
    · have ej : jall τ = all2 τ (nF τ) := if_pos z1
      rw [ej] at hQ
      have key : ∀ k f : Nat, f + k = nF τ → ∀ A, ((all2 τ f).1 = 0 → DA τ A f) → J (f : Int) (tF τ (all2 τ f) (tI τ 8) A B) := by
        intro k
        induction k with
        | zero =>
          intro f hf A hA
          have e : f = nF τ := by omega
          subst e
          refine hJ _ _ (br1 ?_ (bT_judge_162 (hQ A B hB (fun z => ⟨hA z, hO z1⟩))))
          show tI τ 41 ≤ _
          omega
        | succ k ih =>
          intro f hf A hA
          have hf' : f < nF τ := by omega
          refine hJ _ _ (br0 ?_ ⟨by omega, fa ?_⟩)
          · show ¬ tI τ 41 ≤ _
            omega
          by_cases hz : (all2 τ f).1 = 0
          · rw [tF_0 hz, t4_46]
            refine judge_in2 hN hf' (fun A' hA' => ?_) ?_
            · refine bT_judge_156 (fa ?_)
              rw [w32_s (by omega) (by omega)]
              have eg : all2 τ (f + 1) = ff (rchk τ f) (rk τ f) := ff_go hz
              have := ih (f + 1) (by omega) A' (by rw [eg]; exact hA')
              rw [eg] at this
              exact this
            · rw [show A = AsF τ f from hA hz]
              rfl
          · have eg : all2 τ (f + 1) = all2 τ f := ff_no hz
            rw [tF_1 hz, t4_46]
            have hz7 : tI (t4 τ (all2 τ f).1 (all2 τ f).2 (fun y => if y = (f : Int) then 0 else A y) B) 7 ≠ 0 := hz
            refine judge_dead2 hN hf' hz7 ?_
            have := ih (f + 1) (by omega) (fun y => if y = (f : Int) then 0 else A y) (fun z => absurd (by rw [← eg]; exact z) hz)
            rw [eg, tF_1 hz] at this
            exact this
      rw [tF_0 z1]
      have := key (nF τ) 0 (by omega) (tA τ 46) (fun _ => rfl)
      rw [show all2 τ 0 = (0, 0) from rfl, tF_0 rfl] at this
      exact this
    · have ej : jall τ = all1 τ (nF τ) := if_neg z1
      rw [ej] at hQ
      have key : ∀ k f : Nat, f + k = nF τ → ∀ A, J (f : Int) (tF τ (all1 τ (nF τ)) (tI τ 8) A B) := by
        intro k
        induction k with
        | zero =>
          intro f hf A
          refine hJ _ _ (br1 ?_ (bT_judge_162 (hQ A B hB (fun z => absurd z z1))))
          show tI τ 41 ≤ _
          omega
        | succ k ih =>
          intro f hf A
          have hf' : f < nF τ := by omega
          refine hJ _ _ (br0 ?_ ⟨by omega, fa ?_⟩)
          · show ¬ tI τ 41 ≤ _
            omega
          rw [tF_1 z1, t4_46]
          have hz7 : tI (t4 τ (all1 τ (nF τ)).1 (all1 τ (nF τ)).2 (fun y => if y = (f : Int) then 0 else A y) B) 7 ≠ 0 := z1
          refine judge_dead2 hN hf' hz7 ?_
          have := ih (f + 1) (by omega) (fun y => if y = (f : Int) then 0 else A y)
          rw [tF_1 z1] at this
          exact this
      exact key (nF τ) 0 (by omega) (tA τ 46)
  have key : ∀ k f : Nat, f + k = nF τ → ∀ B, BX τ B → ((all1 τ f).1 = 0 → DB τ B f 0) → I (f : Int) (tF τ (all1 τ f) (tI τ 8) (tA τ 46) B) := by
    intro k
    induction k with
    | zero =>
      intro f hf B hB hD
      have e : f = nF τ := by omega
      subst e
      refine hI _ _ (br1 ?_ (two B hB (fun z => ⟨(hD z).2.2, fun f i q1 q2 => (hD z).1 f i q1 q2⟩)))
      show tI τ 41 ≤ _
      omega
    | succ k ih =>
      intro f hf B hB hD
      have hf' : f < nF τ := by omega
      refine hI _ _ (br0 ?_ ?_)
      · show ¬ tI τ 41 ≤ _
        omega
      by_cases hz : (all1 τ f).1 = 0
      · rw [tF_0 hz]
        refine judge_in hN hK hf' (fun B' hB' hD' => ?_) hB (hD hz)
        refine bT_judge_60 (fa ?_)
        rw [w32_s (by omega) (by omega)]
        have eg : all1 τ (f + 1) = ff (chk τ f) (rk τ f) := ff_go hz
        have := ih (f + 1) (by omega) B' hB' (fun z => by
          rw [eg] at z
          have hd := hD' z
          refine ⟨fun f' i' q1 q2 => ?_, fun i' q => by omega, hd.2.2⟩
          rcases Nat.lt_or_ge f' f with y | y
          · exact hd.1 f' i' y q2
          · have : f' = f := by omega
            subst this
            exact hd.2.1 i' q2)
        rw [eg] at this
        exact this
      · have eg : all1 τ (f + 1) = all1 τ f := ff_no hz
        rw [tF_1 hz]
        have hz7 : tI (t4 τ (all1 τ f).1 (all1 τ f).2 (tA τ 46) B) 7 ≠ 0 := hz
        refine judge_dead hN hf' hz7 ?_
        have := ih (f + 1) (by omega) B hB (fun z => absurd (by rw [← eg]; exact z) hz)
        rw [eg, tF_1 hz] at this
        exact this
  have := key (nF τ) 0 (by omega) (tA τ 55) (fun _ _ => rfl) (fun _ => ⟨fun f' i' q => by omega, fun i' q => by omega, rfl⟩)
  rw [show all1 τ 0 = (0, 0) from rfl, tF_0 rfl, ← h7, t4_id] at this
  exact this
end ZJudge2
