/-! the component's trees: what is known of places -/
section ZKnw
variable {p b e d f F M n : Nat} {w : CW} {τ : TW} {rs : List (Nat × Nat)} {ps : List Pa} {P : Sp} {O : List (Pa × Int)}
/-- where a maker's parts stand -/
def MSh (p : Nat) (w : CW) (M n : Nat) : Prop := (p + 8 < M ∧ tg w M = 16 ∧ fR w 91 M = M + 3 ∧ fR w 94 M = M + 11 ∧ fR w 95 M = M + 1 ∧ fR w 96 M = M + 2 ∧ fR w 97 M = p) ∧ (tg w (M + 1) = 103 ∧ ln w (M + 1) = 41 ∧ tg w (M + 2) = 102 ∧ ln w (M + 2) = 81) ∧ (tg w (M + 3) = 17 ∧ fR w 103 (M + 3) = M + 4 ∧ fR w 104 (M + 3) = M + 5 ∧ fR w 98 (M + 3) = M + 6 ∧ fR w 99 (M + 3) = M + 7 ∧ fR w 100 (M + 3) = M + 8 ∧ fR w 101 (M + 3) = M + 9 ∧ fR w 102 (M + 3) = M + 10) ∧ (tg w (M + 4) = 115 ∧ ln w (M + 4) = 120 ∧ tg w (M + 5) = 103 ∧ ln w (M + 5) = 120) ∧ (tg w (M + 6) = 102 ∧ ln w (M + 6) = n ∧ tg w (M + 7) = 112 ∧ ln w (M + 7) = n ∧ tg w (M + 8) = 103 ∧ ln w (M + 8) = n) ∧ (tg w (M + 9) = 102 ∧ ln w (M + 9) = n ∧ tg w (M + 10) = 102 ∧ ln w (M + 10) = n ∧ tg w (M + 11) = 115 ∧ ln w (M + 11) = n)
def kLo (o : Option Br) : Int := match o with | none => -2147483648 | some b => b.1
def kHi (o : Option Br) : Int := match o with | none => 2147483647 | some b => b.2.1
def kSt (s : Int) (o : Option Br) : Int := match o with | none => 0 | some b => if 3 ≤ s then (if b.1 = -4 then 1 else 2) else if s = 1 then b.1 + 1 else if s = 2 then (if b.2.2.2 = 0 then 1 else 0) else 0
/-- what is known of one place -/
def KN1 (p : Nat) (w : CW) (τ : TW) (M : Nat) (s : Int) (i : Nat) (o : Option Br) : Prop := (s = 0 → aI w (M + 9) i = kLo o ∧ aI w (M + 10) i = kHi o) ∧ (s ≠ 0 → aI w (M + 6) i = kSt s o) ∧ (3 ≤ s → ∀ b, o = some b → b.1 ≠ -4 → ∃ k : Nat, b.1 = k ∧ k < nK τ ∧ aR w (M + 7) i = kd w p k) ∧ (s = 2 → ∀ b, o = some b → b.2.2.2 = 0 → aI w (M + 8) i = b.2.2.1) ∧ (s = 1 → ∀ b, o = some b → b.1 = 0 ∨ b.1 = 1) ∧ (s = 2 → ∀ b, o = some b → b.2.2.2 = 0 ∨ b.2.2.2 = 1)
/-- what is known of all places -/
def KN (p : Nat) (w : CW) (τ : TW) (f F M : Nat) (ps : List Pa) (P : Sp) (O : List (Pa × Int)) : Prop := (∀ (i : Nat) π, ps[i]? = some π → KN1 p w τ M (srP τ f π) i (lkp P π)) ∧ (fI w 105 (M + 3) = O.length ∧ O.length ≤ 120) ∧ ∀ (i : Nat) y, O[i]? = some y → y.1 ∈ ps ∧ aR w (M + 4) i = plo w F ps y.1 ∧ aI w (M + 5) i = y.2 ∧ ∃ b, lkp P y.1 = some b ∧ b.2.2.2 = 1
noncomputable def byv (τ : TW) (P : Sp) (e : Pa × Nat) : Int := if stn τ P e = 0 then 0 else if stn τ P e = 1 then 1 else -1
theorem byv_0 {e : Pa × Nat} (h : lkp P e.1 = none) : byv τ P e = 0 := by unfold byv; rw [if_pos (stn_0.mpr h)]
theorem byv_1 {e : Pa × Nat} {b : Br} (h : lkp P e.1 = some b) (hs : sat τ b e.2) : byv τ P e = 1 := by unfold byv; rw [stn_1 h hs]; rfl
theorem byv_2 {e : Pa × Nat} {b : Br} (h : lkp P e.1 = some b) (hs : ¬ sat τ b e.2) : byv τ P e = -1 := by unfold byv; rw [stn_2 h hs]; rfl
theorem byv_z {e : Pa × Nat} : byv τ P e = 0 ↔ stn τ P e = 0 := by
  unfold byv
  by_cases h : stn τ P e = 0
  · rw [if_pos h]; exact ⟨fun _ => h, fun _ => rfl⟩
  · rw [if_neg h]
    refine ⟨fun q => ?_, fun q => absurd q h⟩
    split at q <;> omega
theorem byv_m {e : Pa × Nat} : byv τ P e < 0 ↔ stn τ P e = 2 := by
  unfold byv
  rcases stn_le (τ := τ) (P := P) (e := e) with h | h | h <;> rw [h] <;> decide
/-- whether a text is out -/
theorem sC_kout (hM : MSh p w M n) (hP : PL p w (nK τ) F (srP τ f) ps) (hK : KN p w τ f F M ps P O) {π : Pa} (hp : π ∈ ps) {t : Int} {Q : ZRes → CW → Prop} (hQ : ((π, t) ∈ O → Q (.inl (some (ai 1))) w) ∧ ((π, t) ∉ O → Q (.inl (some (ai 0))) w)) : wpC p (d + 1) 150 [ar (M + 3), ar (plo w F ps π), al t] w Q := by
  obtain ⟨-, -, ⟨m1, m2, m3, -⟩, ⟨m5, m6, m7, m8⟩, -, -⟩ := hM
  obtain ⟨-, ⟨o1, o2⟩, o3⟩ := hK
  refine wC_X19_isOut (Nat.zero_le _) (bC_X19_isOut_0 (bC_X19_isOut_6 ?_))
  intro I hI
  have key : ∀ m k : Nat, m + k = O.length → ∀ x4 : Int, (x4 = 0 ∨ x4 = 1) → (x4 = 1 ↔ ∃ i, i < k ∧ O[i]? = some (π, t)) → I x4 (k : Int) w := by
    intro m
    induction m with
    | zero =>
      intro k hk x4 h4 hx
      refine hI _ _ _ ⟨by rw [m1]; decide, br1 (by rw [o1]; omega) (bC_X19_isOut_54 ⟨h4, ?_⟩)⟩
      by_cases z : (π, t) ∈ O
      · obtain ⟨i, hi⟩ := List.getElem?_of_mem z
        have := (List.getElem?_eq_some_iff.mp hi).1
        rw [hx.mpr ⟨i, by omega, hi⟩]
        exact hQ.1 z
      · have : x4 = 0 := by
          rcases h4 with q | q
          · exact q
          · obtain ⟨i, -, hi⟩ := hx.mp q
            exact absurd (List.mem_of_getElem? hi) z
        rw [this]
        exact hQ.2 z
    | succ m ih =>
      intro k hk x4 h4 hx
      have hkl : k < O.length := by omega
      obtain ⟨q1, q2, q3, -⟩ := o3 k O[k] (List.getElem?_eq_getElem hkl)
      refine hI _ _ _ ⟨by rw [m1]; decide, br0 (by rw [o1]; omega) ⟨by rw [m1]; decide, by rw [m2, m5, m6]; exact ⟨⟨by decide, by decide⟩, by omega, by omega⟩, fun _ => by rw [m3, m7, m8, m1]; exact ⟨by decide, rfl, by omega, by omega⟩, fa (fa (fa ?_))⟩⟩
      rw [m2, m3, w32_s (by omega) (by omega), q2, show aW w (M + 5) (k : Int) = O[k].2 from by unfold aW; rw [if_pos m7]; exact q3]
      have inj : plo w F ps O[k].1 = plo w F ps π ↔ O[k].1 = π := ⟨fun q => hP.inj (Or.inr q1) (Or.inr hp) q, fun q => by rw [q]⟩
      have orv : ∀ v : Int, (v = 0 ∨ v = 1) → (i_or x4 v = 0 ∨ i_or x4 v = 1) ∧ (i_or x4 v = 1 ↔ x4 = 1 ∨ v = 1) := by
        intro v hv
        rcases h4 with q | q <;> rcases hv with u | u <;> rw [q, u, i_or_def] <;> decide
      obtain ⟨v, hv⟩ : ∃ v, v = (if plo w F ps O[k].1 = plo w F ps π ∧ O[k].2 = t then (1 : Int) else 0) := ⟨_, rfl⟩
      rw [← hv]
      have v01 : v = 0 ∨ v = 1 := by rw [hv]; split <;> simp
      obtain ⟨r1, r2⟩ := orv v v01
      have := ih (k + 1) (by omega) (i_or x4 v) r1 ?_
      · exact this
      · rw [r2, hx]
        have vi : v = 1 ↔ O[k] = (π, t) := by
          rw [hv]
          constructor
          · intro q
            split at q
            · rename_i g
              exact Prod.ext (inj.mp g.1) g.2
            · cases q
          · intro q
            rw [if_pos ⟨by rw [q], by rw [q]⟩]
        rw [vi]
        constructor
        · rintro (⟨i, i1, i2⟩ | q)
          · exact ⟨i, by omega, i2⟩
          · exact ⟨k, by omega, by rw [List.getElem?_eq_getElem hkl, q]⟩
        · rintro ⟨i, i1, i2⟩
          rcases (by omega : i < k ∨ i = k) with u | u
          · exact Or.inl ⟨i, u, i2⟩
          · right
            rw [u, List.getElem?_eq_getElem hkl] at i2
            exact Option.some.inj i2
  exact key O.length 0 (by omega) 0 (Or.inl rfl) ⟨fun q => absurd q (by decide), fun ⟨i, i1, _⟩ => by omega⟩
theorem sC_by (W : WF p w) (hKR : KR p w τ) (hM : MSh p w M ps.length) (hP : PL p w (nK τ) F (srP τ f) ps) (hC : CX τ f rs) (hK : KN p w τ f F M ps P O) {x : Nat × Nat} (hx : x ∈ rs) (hD : DEC τ P O x) {e : Pa × Nat} (he : e ∈ tsR τ x.1 x.2) (hep : e.1 ∈ ps) {r : Nat} (hr : TO p w τ r e.2) {Q : ZRes → CW → Prop} (hQ : Q (.inl (some (ai (byv τ P e)))) w) : wpC p (d + 2) (vm12 (tg w r)) [ar r, ar (M + 3), ar (plo w F ps e.1)] w Q := by
  obtain ⟨-, -, ⟨m1, m2, m3, m4, m5, m6, m7, m8⟩, -, ⟨n1, n2, n3, n4, n5, n6⟩, ⟨n7, n8, n9, n10, -⟩⟩ := id hM
  obtain ⟨-, il, iat, ⟨a1, a2, a3, k, j, π', -, -, -, -, -, -, a88⟩⟩ := hP.at hep
  obtain ⟨i, hi⟩ : ∃ i, i = ps.idxOf e.1 := ⟨_, rfl⟩
  rw [← hi] at il iat a3
  obtain ⟨k1, k2, k3, k4, k5, k6⟩ := hK.1 i e.1 iat
  obtain ⟨c1, c2, c3, c4, c5, c6, c7⟩ := hC.k hx he
  have h89 : hF 89 (tg w (plo w F ps e.1)) = true := by rw [a1]; decide
  have h98 : hF 98 (tg w (M + 3)) = true := by rw [m1]; decide
  have rng : 0 ≤ fI w 89 (plo w F ps e.1) ∧ fI w 89 (plo w F ps e.1) < (ps.length : Nat) := by rw [a3]; omega
  have st : (tg w (fR w 98 (M + 3)) = 102 ∧ 0 ≤ fI w 89 (plo w F ps e.1) ∧ fI w 89 (plo w F ps e.1) < (ln w (fR w 98 (M + 3)) : Nat)) := by rw [m4, n1, n2]; exact ⟨rfl, rng⟩
  have sv : srP τ f e.1 ≠ 0 → aN w (fR w 98 (M + 3)) (fI w 89 (plo w F ps e.1)) = kSt (srP τ f e.1) (lkp P e.1) := fun q => by
    unfold aN
    rw [m4, if_neg (by rw [n1]; decide), a3]
    exact k2 q
  rcases hr.2 with ⟨t1, t2, t3, t4⟩ | ⟨t1, t2, t3⟩ | ⟨t1, t2, t3⟩ | ⟨t1, t2⟩ | ⟨t1, t2, ko, t3, t4, t5⟩
  · rw [show vm12 (tg w r) = 100 by rw [t2]; rfl]
    obtain ⟨s0, r1, r2, r3⟩ := c1 t1
    obtain ⟨lo, hi2⟩ := k1 s0
    refine wC_X9_by (Nat.zero_le _) (bC_X9_by_0 ⟨by rw [m1]; decide, h89, by rw [m7, n7, n8]; exact ⟨rfl, rng⟩, fa ⟨by rw [m1]; decide, h89, by rw [m8, n9, n10]; exact ⟨rfl, rng⟩, fa ⟨by rw [t2]; decide, ?_, fa ?_⟩⟩⟩)
    · have : hF 70 (tg w r) = true := by rw [t2]; decide
      have h69 : hF 69 (tg w r) = true := by rw [t2]; decide
      exact ⟨fun _ => ⟨this, fun _ => h69⟩, fun _ => ⟨this, fun _ => ⟨this, fun _ => h69⟩⟩⟩
    · rw [m7, m8, a3, show aN w (M + 9) (i : Int) = kLo (lkp P e.1) from by unfold aN; rw [if_neg (by rw [n7]; decide)]; exact lo, show aN w (M + 10) (i : Int) = kHi (lkp P e.1) from by unfold aN; rw [if_neg (by rw [n9]; decide)]; exact hi2, t3, t4]
      cases hl : lkp P e.1 with
      | none =>
        rw [byv_0 hl] at hQ
        have e1 : kLo none = -2147483648 := rfl
        have e2 : kHi none = 2147483647 := rfl
        rw [e1, e2, if_pos (by omega), if_neg (by omega), if_pos (by omega)]
        exact hQ
      | some b =>
        obtain ⟨d1, -⟩ := hD e he b hl
        show Q (.inl (some (ai (if b.1 < tA τ 19 e.2 then (if tA τ 20 e.2 < b.1 then (-1) else (if tA τ 19 e.2 ≤ b.2.1 then 0 else (-1))) else (if tA τ 20 e.2 < b.2.1 then (if tA τ 20 e.2 < b.1 then (-1) else (if tA τ 19 e.2 ≤ b.2.1 then 0 else (-1))) else 1))))) w
        by_cases hs : tA τ 19 e.2 ≤ b.1 ∧ b.2.1 ≤ tA τ 20 e.2
        · rw [byv_1 hl (Or.inl ⟨t1, hs⟩)] at hQ
          rw [if_neg (by omega), if_neg (by omega)]
          exact hQ
        · have ns : ¬ sat τ b e.2 := fun q => by
            rcases q with q | q | q | q | q
            · exact hs q.2
            all_goals omega
          rw [byv_2 hl ns] at hQ
          have dd : b.2.1 < tA τ 19 e.2 ∨ tA τ 20 e.2 < b.1 := by
            rcases d1 t1 with q | q
            · exact absurd q hs
            · exact q
          by_cases z1 : b.1 < tA τ 19 e.2
          · rw [if_pos z1]
            by_cases z2 : tA τ 20 e.2 < b.1
            · rw [if_pos z2]; exact hQ
            · rw [if_neg z2, if_neg (by omega)]; exact hQ
          · rw [if_neg z1, if_pos (by omega)]
            by_cases z2 : tA τ 20 e.2 < b.1
            · rw [if_pos z2]; exact hQ
            · rw [if_neg z2, if_neg (by omega)]; exact hQ
  · rw [show vm12 (tg w r) = 115 by rw [t2]; rfl]
    obtain ⟨s0, r1⟩ := c2 t1
    have nsat : ∀ b : Br, b.1 ≠ tA τ 19 e.2 → ¬ sat τ b e.2 := fun b hb q => by
      rcases q with q | q | q | q | q
      · omega
      · exact hb q.2
      all_goals omega
    refine wC_X13_by (Nat.zero_le _) (bC_X13_by_0 ⟨h98, h89, st, fa ?_⟩)
    rw [sv (by omega), s0]
    cases hl : lkp P e.1 with
    | none =>
      rw [byv_0 hl] at hQ
      exact br1 rfl (bC_X13_by_39 (call := wpC p (d + 1)) hQ)
    | some b =>
      rw [show kSt 1 (some b) = b.1 + 1 from rfl]
      have kst := k2 (by omega)
      rw [hl, s0] at kst
      by_cases hs : b.1 = tA τ 19 e.2
      · rw [byv_1 hl (Or.inr (Or.inl ⟨t1, hs⟩))] at hQ
        refine br0 (by omega) ⟨by rw [t2]; decide, fa ?_⟩
        rw [t3]
        refine br1 ?_ (bC_X13_by_39 (call := wpC p (d + 1)) hQ)
        rw [hs]
        rcases r1 with q | q <;> rw [q] <;> rfl
      · rw [byv_2 hl (nsat b hs)] at hQ
        by_cases z : b.1 + 1 = 0
        · have := k5 s0 b hl
          omega
        · refine br0 z ⟨by rw [t2]; decide, fa ?_⟩
          rw [t3]
          refine br0 ?_ (bC_X13_by_39 (call := wpC p (d + 1)) hQ)
          rcases r1 with q | q <;> rw [q] at hs ⊢
          · rw [if_pos rfl]; omega
          · rw [if_neg (by decide)]; omega
  · rw [show vm12 (tg w r) = 112 by rw [t2]; rfl]
    have s0 := c3 t1
    refine wC_X12_by (Nat.zero_le _) (bC_X12_by_0 ⟨h98, h89, st, ?_⟩)
    rw [sv (by omega), s0]
    have k4' := k4 s0
    cases hl : lkp P e.1 with
    | none =>
      rw [byv_0 hl] at hQ
      refine br0 (by show ¬ ((0 : Int) = 1); decide) ⟨by rw [t2]; decide, m1, ?_⟩
      refine sC_kout hM hP hK hep ⟨fun q => ?_, fun q => ?_⟩
      · exfalso
        obtain ⟨i', hi'⟩ := List.getElem?_of_mem q
        obtain ⟨-, -, -, b, hb, -⟩ := hK.2.2 i' _ hi'
        rw [hl] at hb
        cases hb
      · exact fa hQ
    | some b =>
      have nsat : ¬ (b.2.2.2 = 0 ∧ b.2.2.1 = tA τ 21 e.2) → ¬ sat τ b e.2 := fun hb q => by
        rcases q with q | q | q | q | q
        · omega
        · omega
        · exact hb q.2
        all_goals omega
      by_cases z : b.2.2.2 = 0
      · rw [show kSt 2 (some b) = 1 from by show (if b.2.2.2 = 0 then (1 : Int) else 0) = 1; rw [if_pos z]]
        refine br1 rfl ⟨by rw [m1]; decide, h89, by rw [m6, n5, n6]; exact ⟨rfl, rng⟩, by rw [t2]; decide, fa ?_⟩
        rw [m6, a3, show aW w (M + 8) (i : Int) = b.2.2.1 from by unfold aW; rw [if_pos n5]; exact k4' b hl z, t3]
        by_cases hs : b.2.2.1 = tA τ 21 e.2
        · rw [byv_1 hl (Or.inr (Or.inr (Or.inl ⟨t1, z, hs⟩)))] at hQ
          rw [if_pos hs]
          exact hQ
        · rw [byv_2 hl (nsat (fun q => hs q.2))] at hQ
          rw [if_neg hs]
          exact hQ
      · rw [show kSt 2 (some b) = 0 from by show (if b.2.2.2 = 0 then (1 : Int) else 0) = 0; rw [if_neg z]]
        rw [byv_2 hl (nsat (fun q => z q.1))] at hQ
        refine br0 (by decide) ⟨by rw [t2]; decide, m1, ?_⟩
        rw [t3]
        refine sC_kout hM hP hK hep ⟨fun q => fa hQ, fun q => ?_⟩
        exfalso
        obtain ⟨-, d2⟩ := hD e he b hl
        exact q (d2 t1 ((k6 s0 b hl).resolve_left z))
  · rw [show vm12 (tg w r) = 118 by rw [t2]; rfl]
    have s0 := c4 t1
    have nsat : ∀ b : Br, b.1 ≠ -4 → ¬ sat τ b e.2 := fun b hb q => by
      rcases q with q | q | q | q | q
      · omega
      · omega
      · omega
      · exact hb q.2
      · omega
    refine wC_X14_by (Nat.zero_le _) (bC_X14_by_0 ⟨h98, h89, st, fa (fa ?_)⟩)
    rw [sv (by omega)]
    cases hl : lkp P e.1 with
    | none =>
      rw [byv_0 hl] at hQ
      exact hQ
    | some b =>
      have ek : kSt (srP τ f e.1) (some b) = if b.1 = -4 then 1 else 2 := by
        show (if 3 ≤ srP τ f e.1 then _ else _) = _
        rw [if_pos s0]
      rw [ek]
      by_cases hs : b.1 = -4
      · rw [byv_1 hl (Or.inr (Or.inr (Or.inr (Or.inl ⟨t1, hs⟩))))] at hQ
        rw [if_pos hs]
        exact hQ
      · rw [byv_2 hl (nsat b hs)] at hQ
        rw [if_neg hs]
        exact hQ
  · rw [show vm12 (tg w r) = 105 by rw [t2]; rfl]
    have s0 := c5 t1
    refine wC_X10_by (Nat.zero_le _) (bC_X10_by_0 ⟨h98, h89, st, fa ?_⟩)
    rw [sv (by omega)]
    cases hl : lkp P e.1 with
    | none =>
      rw [byv_0 hl] at hQ
      exact br1 rfl (bC_X10_by_47 (call := wpC p (d + 1)) hQ)
    | some b =>
      have ek : kSt (srP τ f e.1) (some b) = if b.1 = -4 then 1 else 2 := by
        show (if 3 ≤ srP τ f e.1 then _ else _) = _
        rw [if_pos s0]
      rw [ek]
      have nsat : ¬ (b.1 ≠ -4 ∧ ofT τ b.1 (tA τ 19 e.2)) → ¬ sat τ b e.2 := fun hb q => by
        rcases q with q | q | q | q | q
        · omega
        · omega
        · omega
        · omega
        · exact hb q.2
      by_cases hs : b.1 = -4
      · rw [byv_2 hl (nsat (fun q => q.1 hs))] at hQ
        rw [if_pos hs]
        exact br0 (by decide) (br0 (by decide) (bC_X10_by_46 (call := wpC p (d + 1)) (bC_X10_by_47 hQ)))
      · rw [if_neg hs]
        obtain ⟨kk, q1, q2, q3⟩ := k3 s0 b hl hs
        refine br0 (by decide) (br1 rfl ⟨by rw [m1]; decide, h89, by rw [m5, n3, n4]; exact ⟨⟨by decide, by decide⟩, rng⟩, by rw [t2]; decide, ?_⟩)
        rw [m5, a3, q3, t5]
        refine ⟨(hKR.2.2.2.2.1 kk q2).1, sC_is (d := d) hKR W q2 t4 ?_⟩
        by_cases hs2 : ofT τ b.1 (tA τ 19 e.2)
        · rw [byv_1 hl (Or.inr (Or.inr (Or.inr (Or.inr ⟨t1, hs, hs2⟩))))] at hQ
          rw [q1, t3] at hs2
          rw [ofB_1 hs2]
          exact br0 (by decide) (bC_X10_by_47 (call := wpC p (d + 1)) hQ)
        · rw [byv_2 hl (nsat (fun q => hs2 q.2))] at hQ
          rw [q1, t3] at hs2
          rw [ofB_0 hs2]
          exact br1 rfl (bC_X10_by_46 (call := wpC p (d + 1)) (bC_X10_by_47 hQ))
end ZKnw
