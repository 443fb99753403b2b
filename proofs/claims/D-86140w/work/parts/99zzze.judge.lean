/-! judge: the reference's half -/
section ZJudge
variable {p b e d : Nat} {w : CW} {τ : TW}
/-- the reference's state but its fault, the answers' functions, the rows' numbers -/
def t4 (τ : TW) (a b : Int) (A B : Int → Int) : TW := ((fun g => if g = 7 then a else if g = 8 then b else τ.1 g), fun g => if g = 46 then A else if g = 55 then B else τ.2 g)
theorem t4_id : t4 τ (tI τ 7) (tI τ 8) (tA τ 46) (tA τ 55) = τ := by
  unfold t4
  refine Prod.ext (funext fun g => ?_) (funext fun g => ?_)
  · show (if g = 7 then tI τ 7 else if g = 8 then tI τ 8 else τ.1 g) = τ.1 g
    split
    · rename_i z; subst z; rfl
    · split
      · rename_i z; subst z; rfl
      · rfl
  · show (if g = 46 then tA τ 46 else if g = 55 then tA τ 55 else τ.2 g) = τ.2 g
    split
    · rename_i z; subst z; rfl
    · split
      · rename_i z; subst z; rfl
      · rfl
theorem t4_78 (a b k pl : Int) (A B : Int → Int) : sI (sI (t4 τ a b A B) 7 k) 8 pl = t4 τ k pl A B := by
  unfold t4 sI
  refine Prod.ext (funext fun g => ?_) rfl
  show (if g = 8 then pl else if g = 7 then k else if g = 7 then a else if g = 8 then b else τ.1 g) = if g = 7 then k else if g = 8 then pl else τ.1 g
  by_cases z : g = 7
  · subst z; simp
  · by_cases z2 : g = 8
    · simp [z2]
    · simp [z, z2]
theorem t4_fnN (a b : Int) (A B : Int → Int) (v : Int) : ∀ n, fnN (t4 τ a b A B) v n = fnN τ v n := by
  intro n
  induction n with
  | zero => rfl
  | succ n ih =>
    unfold fnN
    rw [ih]
    rfl
theorem t4_fnB (a b : Int) (A B : Int → Int) (v : Int) : fnB (t4 τ a b A B) v = fnB τ v := t4_fnN a b A B v (nF τ)
theorem t4_up (a b : Int) (A B : Int → Int) : ∀ n k, upN (t4 τ a b A B) n k = upN τ n k := by
  intro n
  induction n with
  | zero => intro k; rfl
  | succ n ih =>
    intro k
    unfold upN
    rw [ih]
    rfl
theorem t4_ofB (a b : Int) (A B : Int → Int) (k o : Int) : ofB (t4 τ a b A B) k o = ofB τ k o := by
  have e : ofT (t4 τ a b A B) k o = ofT τ k o := by
    unfold ofT
    simp only [t4_up]
  by_cases h : ofT τ k o
  · rw [ofB_1 h, ofB_1 (by rw [e]; exact h)]
  · rw [ofB_0 h, ofB_0 (by rw [e]; exact h)]
theorem t4_55 (a b : Int) (A B : Int → Int) (x v : Int) : sA (t4 τ a b A B) 55 x v = t4 τ a b A (fun y => if y = x then v else B y) := by
  unfold t4 sA
  refine Prod.ext rfl (funext fun g => funext fun y => ?_)
  show (if g = 55 ∧ y = x then v else (if g = 46 then A else if g = 55 then B else τ.2 g) y) = (if g = 46 then A else if g = 55 then (fun y => if y = x then v else B y) else τ.2 g) y
  by_cases z : g = 55
  · subst z; by_cases z2 : y = x <;> simp [z2]
  · simp [z]
theorem t4_46 (a b : Int) (A B : Int → Int) (x v : Int) : sA (t4 τ a b A B) 46 x v = t4 τ a b (fun y => if y = x then v else A y) B := by
  unfold t4 sA
  refine Prod.ext rfl (funext fun g => funext fun y => ?_)
  show (if g = 46 ∧ y = x then v else (if g = 46 then A else if g = 55 then B else τ.2 g) y) = (if g = 46 then (fun y => if y = x then v else A y) else if g = 55 then B else τ.2 g) y
  by_cases z : g = 46
  · subst z; by_cases z2 : y = x <;> simp [z2]
  · simp [z]
/-- with a first fault, if there is one -/
def tF (τ : TW) (c : Int × Int) (b : Int) (A B : Int → Int) : TW := t4 τ c.1 (if c.1 = 0 then b else c.2) A B
theorem tF_0 {c : Int × Int} (h : c.1 = 0) (b : Int) (A B : Int → Int) : tF τ c b A B = t4 τ 0 b A B := by
  unfold tF
  rw [h, if_pos rfl]
theorem tF_1 {c : Int × Int} (h : c.1 ≠ 0) (b : Int) (A B : Int → Int) : tF τ c b A B = t4 τ c.1 c.2 A B := by
  unfold tF
  rw [if_neg h]
theorem sT_fails0 {k pl b : Int} {A B : Int → Int} {Q : ZRes → TW → Prop} (hQ : Q (.inl none) (t4 τ k pl A B)) : wpT (d + 1) 13 [ai k, ai pl] (t4 τ 0 b A B) Q :=
  wT_fails (Nat.zero_le _) ⟨fun _ => fa (fa (by rw [t4_78]; exact hQ)), fun z => absurd rfl z⟩
theorem jx (a : Nat) (n i : Nat) (h : a * n + i < 100000) (ha : a ≤ 100000) : w32 (w32 ((a : Int) * (n : Int)) + (i : Int)) = ((a * n + i : Nat) : Int) := by
  have e : (a : Int) * (n : Int) = ((a * n : Nat) : Int) := by push_cast; rfl
  rw [e]
  generalize a * n = q at *
  rw [w32_s (a := ((q : Nat) : Int)) (by omega) (by omega), w32_s (by omega) (by omega)]
  omega
/-- what answerValue comes to -/
noncomputable def uB (τ : TW) (R : Nat) (B : Int → Int) : Int → Int := if fnB τ (tA τ 56 R) = -4 then B else fun y => if y = R then fnB τ (tA τ 56 R) else B y
theorem sT_judgeAnswer {R x : Nat} {b : Int} {A B : Int → Int} (hN : FN p w τ) (hS : SCF p w τ R x) (hK : KR p w τ) (hR : R < 192) {Q : ZRes → TW → Prop} (hQ : Q (.inl none) (tF τ (jc τ R) b A (uB τ R B))) : wpT (d + 2) 44 [ai R] (t4 τ 0 b A B) Q := by
  obtain ⟨-, m, ⟨b1, b2, b3, b4⟩, b5⟩ := hS
  have n12 : nF τ ≤ 12 := hN.2.2.2.1
  have hU : UnT (t4 τ 0 b A B) := (KRs.un hK : UnT τ)
  refine wT_judgeAnswer (Nat.zero_le _) (bT_judgeAnswer_0 ⟨by omega, ?_⟩)
  refine sT_functionOf (d := d) (τ := t4 τ 0 b A B) hN.2.2.1 n12 ?_
  have e0 : fnB (t4 τ 0 b A B) (tA (t4 τ 0 b A B) 56 R) = fnB τ (tA τ 56 R) := t4_fnB _ _ _ _ _
  rw [e0]
  rcases fnN_spec (tA τ 56 R) (nF τ) (τ := τ) with ⟨z, -⟩ | ⟨g, hg, z, -⟩
  · have z : fnB τ (tA τ 56 R) = -4 := z
    have ej := jc_4 (R := R) (τ := τ) z
    refine br1 z ⟨by omega, sT_fails0 ?_⟩
    rw [ej] at hQ
    rw [tF_1 (show (4 : Int) ≠ 0 by decide)] at hQ
    unfold uB at hQ
    rw [if_pos z] at hQ
    exact hQ
  · have z : fnB τ (tA τ 56 R) = g := z
    obtain ⟨f1, n, f2, f3, f4, f5, f6, f7⟩ := hN.fcf g hg
    have eB : uB τ R B = fun y => if y = (R : Int) then (g : Int) else B y := by
      unfold uB
      rw [if_neg (by omega), z]
    rw [eB] at hQ
    rw [z]
    refine br0 (by omega) ⟨by omega, fa ?_⟩
    rw [t4_55]
    obtain ⟨B', hB'⟩ : ∃ B' : Int → Int, B' = fun y => if y = (R : Int) then (g : Int) else B y := ⟨_, rfl⟩
    rw [← hB'] at hQ ⊢
    refine ⟨by omega, by omega, ?_⟩
    show (tA τ 58 R = tA τ 43 g → _) ∧ (¬ tA τ 58 R = tA τ 43 g → _)
    by_cases y : (n : Int) = (m : Nat)
    · have enm : n = m := by omega
      subst enm
      have ej := jc_5 (R := R) (g := g) (m := n) (τ := τ) z (by omega) f2
      rw [ej] at hQ
      refine br1 (by omega) (bT_judgeAnswer_63 (bT_judgeAnswer_65 ?_))
      intro I hI
      have fin : ∀ j : Nat, (j = n ∨ (ff (jk τ R g) j).1 ≠ 0) → j ≤ n → I (j : Int) (tF τ (ff (jk τ R g) j) b A B') := by
        intro j hj hjn
        have e : ff (jk τ R g) j = ff (jk τ R g) n := by
          rcases hj with h | h
          · rw [h]
          · exact (ff_stay h n hjn).symm
        refine hI _ _ ⟨by omega, br0 ?_ (bT_judgeAnswer_183 (by rw [e]; exact hQ))⟩
        show ¬ (¬ tA τ 43 g ≤ j ∧ (ff (jk τ R g) j).1 = 0)
        rcases hj with h | h
        · omega
        · exact fun q => h q.2
      have key : ∀ k j : Nat, j + k = n → I (j : Int) (tF τ (ff (jk τ R g) j) b A B') := by
        intro k
        induction k with
        | zero => exact fun j hj => fin j (Or.inl (by omega)) (by omega)
        | succ k ih =>
          intro j hj
          by_cases hz : (ff (jk τ R g) j).1 = 0
          · have next := ih (j + 1) (by omega)
            rw [ff_go hz] at next
            rw [tF_0 hz]
            obtain ⟨nn, n1, n2, n3, n4, n5, n6, n7⟩ := b5 j (by omega) (by omega)
            obtain ⟨t1, t2, t3⟩ := f7 j (by omega)
            have i3 := jx 3 R j (by omega) (by decide)
            have i8 := jx 8 R nn (by omega) (by decide)
            have ig := jx 3 g j (by omega) (by decide)
            have e59 : tA (t4 τ 0 b A B') 59 ((3 * R + j : Nat) : Int) = (nn : Int) := n2
            have e30 : tA (t4 τ 0 b A B') 30 ((8 * R + nn : Nat) : Int) = hdS τ R j := by
              show tA τ 30 ((8 * R + nn : Nat) : Int) = _
              unfold hdS
              rw [n2]
              rfl
            have e44 : tA (t4 τ 0 b A B') 44 ((3 * g + j : Nat) : Int) = tA τ 44 ((3 * g + j : Nat) : Int) := rfl
            have yes : fit τ (hdS τ R j) (tA τ 44 (3 * g + j : Nat)) → pT_judgeAnswer_155 (wpT (d + 1)) (fun w => Q (.inl none) w) I R g j 1 (t4 τ 0 b A B') := fun hfit => by
              rw [jk_1 hfit, tF_0 rfl] at next
              refine bT_judgeAnswer_155 (br0 (by decide) (bT_judgeAnswer_177 (fa ?_)))
              rw [w32_s (by omega) (by omega)]
              exact next
            have no : ¬ fit τ (hdS τ R j) (tA τ 44 (3 * g + j : Nat)) → pT_judgeAnswer_155 (wpT (d + 1)) (fun w => Q (.inl none) w) I R g j 0 (t4 τ 0 b A B') := fun hfit => by
              rw [jk_0 hfit, tF_1 (show (5 : Int) ≠ 0 by decide)] at next
              refine bT_judgeAnswer_155 (br1 rfl ⟨?_, ?_⟩)
              · have := i3
                show 0 ≤ w32 (w32 (3 * (R : Int)) + (j : Int)) ∧ w32 (w32 (3 * (R : Int)) + (j : Int)) < 576
                rw [show (3 : Int) = ((3 : Nat) : Int) from rfl, i3]
                omega
              rw [show w32 (w32 (3 * (R : Int)) + (j : Int)) = ((3 * R + j : Nat) : Int) from i3]
              refine sT_fails0 (bT_judgeAnswer_177 (call := wpT (d + 1)) (Q := fun w => Q (.inl none) w) (x1 := R) (x2 := g) (fa ?_))
              rw [w32_s (by omega) (by omega)]
              exact next
            refine hI _ _ ⟨by omega, br1 ⟨?_, rfl⟩ ?_⟩
            · show ¬ tA τ 43 g ≤ j
              omega
            rw [show w32 (w32 (3 * (R : Int)) + (j : Int)) = ((3 * R + j : Nat) : Int) from i3, e59, show w32 (w32 (8 * (R : Int)) + (nn : Int)) = ((8 * R + nn : Nat) : Int) from i8, show w32 (w32 (3 * (g : Int)) + (j : Int)) = ((3 * g + j : Nat) : Int) from ig, e30, e44]
            refine ⟨by omega, by omega, fa ⟨by omega, fa ?_⟩⟩
            by_cases st : hdS τ R j = tA τ 44 (3 * g + j : Nat)
            · exact br1 st (bT_judgeAnswer_150 (yes (Or.inl st)))
            refine br0 st ?_
            by_cases s3 : ¬ hdS τ R j < 3 ∧ ¬ tA τ 44 (3 * g + j : Nat) < 3
            · obtain ⟨u, hu⟩ : ∃ u : Nat, hdS τ R j - 3 = (u : Int) := ⟨(hdS τ R j - 3).toNat, by omega⟩
              obtain ⟨v, hv⟩ : ∃ v : Nat, tA τ 44 (3 * g + j : Nat) - 3 = (v : Int) := ⟨(tA τ 44 (3 * g + j : Nat) - 3).toNat, by omega⟩
              have hu2 : u < nK τ := by omega
              have k24 : nK τ ≤ 24 := by have := hK.2.2.2.1; unfold nK; omega
              refine br1 s3 ?_
              rw [w32_s (by omega) (by omega), w32_s (by omega) (by omega), hu, hv]
              refine sT_isOf (τ := t4 τ 0 b A B') hU (k := u) (o := v) hu2 ?_
              have eo : ofB (t4 τ 0 b A B') u v = ofB τ u v := t4_ofB _ _ _ _ _ _
              rw [eo]
              by_cases o : ofT τ u v
              · rw [ofB_1 o]
                refine br0 (by decide) (bT_judgeAnswer_150 (yes (Or.inr ⟨s3.1, s3.2, ?_⟩)))
                rw [hu, hv]
                exact o
              · rw [ofB_0 o]
                refine br1 rfl (bT_judgeAnswer_154 (no (fun hf => hf.elim st (fun q => o ?_))))
                have := q.2.2
                rw [hu, hv] at this
                exact this
            · exact br0 s3 (bT_judgeAnswer_154 (no (fun hf => hf.elim st (fun q => s3 ⟨q.1, q.2.1⟩))))
          · exact fin j (Or.inr hz) (by omega)
      have := key n 0 (by omega)
      rw [show ff (jk τ R g) 0 = (0, 0) from rfl, tF_0 rfl] at this
      exact this
    · have ej := jc_6 (R := R) (g := g) (τ := τ) z (by omega)
      rw [ej, tF_1 (show (6 : Int) ≠ 0 by decide)] at hQ
      refine br0 (by omega) ⟨by omega, sT_fails0 (bT_judgeAnswer_63 (call := wpT (d + 1)) (Q := fun w => Q (.inl none) w) (x1 := R) (x2 := g) (bT_judgeAnswer_65 ?_))⟩
      intro I hI
      exact hI _ _ ⟨by omega, br0 (fun q => absurd q.2 (show (6 : Int) ≠ 0 by decide)) (bT_judgeAnswer_183 hQ)⟩
end ZJudge
