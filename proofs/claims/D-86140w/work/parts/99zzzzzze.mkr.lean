/-! the component's trees: a maker is new -/
section ZMkr
variable {p b e d f F M n wy : Nat} {wS w : CW} {τ : TW} {rs rows : List (Nat × Nat)} {ps : List Pa} {ro : Nat × Nat → Nat} {ru : Nat → Nat}
/-- an array, new, kept in a field -/
def aN1 (w : CW) (t n g x : Nat) : CW := pR (nA w t n) g x (cz w + 1)
theorem cz_aN1 (w : CW) (t n g x : Nat) : cz (aN1 w t n g x) = cz w + 1 := rfl
theorem cu_aN1 (w : CW) (t n g x : Nat) : cu (aN1 w t n g x) = cu w + n := rfl
theorem mz_aN1 (w : CW) (t n g x : Nat) : mz (aN1 w t n g x) = mz w := rfl
theorem mu_aN1 (w : CW) (t n g x : Nat) : mu (aN1 w t n g x) = mu w := rfl
theorem tg_aN1 (w : CW) (t n g x r : Nat) : tg (aN1 w t n g x) r = if r = cz w + 1 then t else tg w r := rfl
theorem ln_aN1 (w : CW) (t n g x r : Nat) : ln (aN1 w t n g x) r = if r = cz w + 1 then n else ln w r := rfl
theorem fI_aN1 (w : CW) (t n g x : Nat) : fI (aN1 w t n g x) = fI w := rfl
theorem fR_aN1 (w : CW) (t n g x h q : Nat) : fR (aN1 w t n g x) h q = if h = g ∧ q = x then cz w + 1 else fR w h q := rfl
theorem aI_aN1 (w : CW) (t n g x r : Nat) (i : Int) : aI (aN1 w t n g x) r i = if r = cz w + 1 then 0 else aI w r i := rfl
theorem aR_aN1 (w : CW) (t n g x r : Nat) (i : Int) : aR (aN1 w t n g x) r i = if r = cz w + 1 then 0 else aR w r i := rfl
theorem zm_aN1 (w : CW) (t n g x : Nat) : zm (aN1 w t n g x) = zm w + n + 5 := by
  show ((cu w + n : Nat) : Int) + 5 * ((cz w + 1 : Nat) : Int) = ((cu w : Nat) : Int) + 5 * ((cz w : Nat) : Int) + n + 5
  omega
theorem fr_aN1 {T : List Nat} {w0 : CW} (h : Fr T w0 w) {t n g x : Nat} (hx : x ∈ T ∨ cz w0 < x) : Fr T w0 (aN1 w t n g x) := h.snA.spR hx
theorem wf_aN1 (h : WF p w) (t n g x : Nat) : WF p (aN1 w t n g x) := (h.snA _ _).spR _ _ _
theorem st_arr {z : Int} {t g x : Nat} {K : CW → Prop} (hz : z = (n : Nat)) (hn : n ≤ 1000000) (hm : cz w + 1 ≤ mz w ∧ cu w + n ≤ mu w) (hx : x ≤ cz w) (hP' : hP g (tg w x) = true) (hK : K (aN1 w t n g x)) : ((0 ≤ z ∧ z ≤ 1000000) ∧ cz w + 1 ≤ mz w ∧ cu w + Int.toNat z ≤ mu w) ∧ ∀ u3 : CW, u3 = nA w t (Int.toNat z) → (hP g (tg u3 x) = true) ∧ ∀ u5 : CW, u5 = pR u3 g x (cz w + 1) → K u5 := by
  rw [hz, Int.toNat_natCast]
  refine ⟨⟨⟨by omega, by omega⟩, hm⟩, fa ⟨?_, fa hK⟩⟩
  rw [tg_nA, if_neg (by omega)]
  exact hP'
/-- the arrays of what is known -/
def knA (w : CW) (x n : Nat) : CW := aN1 (aN1 (aN1 (aN1 (aN1 (aN1 (aN1 w 115 120 103 x) 103 120 104 x) 102 n 98 x) 112 n 99 x) 103 n 100 x) 102 n 101 x) 102 n 102 x
theorem knA_tg (w : CW) (x n r : Nat) : tg (knA w x n) r = if r = cz w + 7 then 102 else if r = cz w + 6 then 102 else if r = cz w + 5 then 103 else if r = cz w + 4 then 112 else if r = cz w + 3 then 102 else if r = cz w + 2 then 103 else if r = cz w + 1 then 115 else tg w r := rfl
theorem knA_ln (w : CW) (x n r : Nat) : ln (knA w x n) r = if r = cz w + 7 then n else if r = cz w + 6 then n else if r = cz w + 5 then n else if r = cz w + 4 then n else if r = cz w + 3 then n else if r = cz w + 2 then 120 else if r = cz w + 1 then 120 else ln w r := rfl
theorem knA_fR (w : CW) (x n g q : Nat) : fR (knA w x n) g q = if g = 102 ∧ q = x then cz w + 7 else if g = 101 ∧ q = x then cz w + 6 else if g = 100 ∧ q = x then cz w + 5 else if g = 99 ∧ q = x then cz w + 4 else if g = 98 ∧ q = x then cz w + 3 else if g = 104 ∧ q = x then cz w + 2 else if g = 103 ∧ q = x then cz w + 1 else fR w g q := rfl
theorem knA_aI (w : CW) (x n r : Nat) (i : Int) : aI (knA w x n) r i = if r = cz w + 7 then 0 else if r = cz w + 6 then 0 else if r = cz w + 5 then 0 else if r = cz w + 4 then 0 else if r = cz w + 3 then 0 else if r = cz w + 2 then 0 else if r = cz w + 1 then 0 else aI w r i := rfl
theorem knA_fI (w : CW) (x n : Nat) : fI (knA w x n) = fI w := rfl
/-- the least and the most, so far -/
def lpW (u : CW) (A B : Nat) : Nat → CW
  | 0 => u
  | k + 1 => qI (qI (lpW u A B k) A (k : Nat) (-2147483648)) B (k : Nat) 2147483647
theorem lpW_st {u : CW} {A B : Nat} : ∀ k, tg (lpW u A B k) = tg u ∧ ln (lpW u A B k) = ln u ∧ fI (lpW u A B k) = fI u ∧ fR (lpW u A B k) = fR u ∧ aR (lpW u A B k) = aR u ∧ cz (lpW u A B k) = cz u ∧ cu (lpW u A B k) = cu u ∧ mz (lpW u A B k) = mz u ∧ mu (lpW u A B k) = mu u := by
  intro k
  induction k with
  | zero => exact ⟨rfl, rfl, rfl, rfl, rfl, rfl, rfl, rfl, rfl⟩
  | succ k ih => exact ih
theorem lpW_aI {u : CW} {A B : Nat} (hAB : A ≠ B) : ∀ (k : Nat) (r : Nat) (i : Int), aI (lpW u A B k) r i = if r = A ∧ 0 ≤ i ∧ i < k then -2147483648 else if r = B ∧ 0 ≤ i ∧ i < k then 2147483647 else aI u r i := by
  intro k
  induction k with
  | zero => intro r i; rw [if_neg (by omega), if_neg (by omega)]; rfl
  | succ k ih =>
    intro r i
    show (if r = B ∧ i = (k : Nat) then 2147483647 else if r = A ∧ i = (k : Nat) then -2147483648 else aI (lpW u A B k) r i) = _
    rw [ih]
    by_cases hA : r = A
    · rw [if_neg (by omega)]
      by_cases hi : i = (k : Nat)
      · rw [if_pos ⟨hA, hi⟩, if_pos ⟨hA, by omega, by omega⟩]
      · rw [if_neg (by omega)]
        by_cases hk : 0 ≤ i ∧ i < k
        · rw [if_pos ⟨hA, hk⟩, if_pos ⟨hA, by omega, by omega⟩]
        · rw [if_neg (by omega), if_neg (by omega), if_neg (by omega), if_neg (by omega)]
    · by_cases hB : r = B
      · by_cases hi : i = (k : Nat)
        · rw [if_pos ⟨hB, hi⟩, if_neg (by omega), if_pos ⟨hB, by omega, by omega⟩]
        · rw [if_neg (by omega), if_neg (by omega), if_neg (by omega)]
          by_cases hk : 0 ≤ i ∧ i < k
          · rw [if_pos ⟨hB, hk⟩, if_neg (by omega), if_pos ⟨hB, by omega, by omega⟩]
          · rw [if_neg (by omega), if_neg (by omega), if_neg (by omega)]
      · rw [if_neg (by omega), if_neg (by omega), if_neg (by omega), if_neg (by omega), if_neg (by omega), if_neg (by omega)]
theorem lpW_fr {T : List Nat} {u w0 : CW} {A B : Nat} (h : Fr T w0 u) (W : WF p u) (hA : A ∈ T ∨ cz w0 < A) (hB : B ∈ T ∨ cz w0 < B) : ∀ k, Fr T w0 (lpW u A B k) ∧ WF p (lpW u A B k) := by
  intro k
  induction k with
  | zero => exact ⟨h, W⟩
  | succ k ih => exact ⟨(ih.1.sqI hA).sqI hB, (ih.2.sqI _ _ _).sqI _ _ _⟩
/-- what is known is new -/
theorem sC_kinit (hx : tg w (cz w) = 17) (W : WF p w) (hn : n ≤ 1000) {lim : Int} (hm : lim ≤ mu w ∧ lim ≤ 5 * mz w) (hlim : zm w + 275 + 5 * n ≤ lim) {Q : ZRes → CW → Prop} (hQ : Q (.inl none) (lpW (knA w (cz w) n) (cz w + 6) (cz w + 7) n)) : wpC p (d + 1) 149 [ar (cz w), ai (n : Nat)] w Q := by
  have c0 : cz w ≠ 0 := fun q => by have := W.1; rw [q, this] at hx; cases hx
  have rm : ∀ (u : CW) (k a : Nat), mu u = mu w → mz u = mz w → zm u ≤ zm w + a → a + k + 5 ≤ 275 + 5 * n → cz u + 1 ≤ mz u ∧ cu u + k ≤ mu u := fun u k a h1 h2 h3 h4 => room_n (w := u) (k := k) (by rw [h1, h2]; exact hm) (by omega)
  obtain ⟨v1, e1⟩ : ∃ v, v = aN1 w 115 120 103 (cz w) := ⟨_, rfl⟩
  obtain ⟨v2, e2⟩ : ∃ v, v = aN1 v1 103 120 104 (cz w) := ⟨_, rfl⟩
  obtain ⟨v3, e3⟩ : ∃ v, v = aN1 v2 102 n 98 (cz w) := ⟨_, rfl⟩
  obtain ⟨v4, e4⟩ : ∃ v, v = aN1 v3 112 n 99 (cz w) := ⟨_, rfl⟩
  obtain ⟨v5, e5⟩ : ∃ v, v = aN1 v4 103 n 100 (cz w) := ⟨_, rfl⟩
  obtain ⟨v6, e6⟩ : ∃ v, v = aN1 v5 102 n 101 (cz w) := ⟨_, rfl⟩
  obtain ⟨v7, e7⟩ : ∃ v, v = aN1 v6 102 n 102 (cz w) := ⟨_, rfl⟩
  have z1 : zm v1 = zm w + 125 := by rw [e1, zm_aN1]; omega
  have z2 : zm v2 = zm w + 250 := by rw [e2, zm_aN1, z1]; omega
  have z3 : zm v3 = zm w + 255 + n := by rw [e3, zm_aN1, z2]; omega
  have z4 : zm v4 = zm w + 260 + 2 * n := by rw [e4, zm_aN1, z3]; omega
  have z5 : zm v5 = zm w + 265 + 3 * n := by rw [e5, zm_aN1, z4]; omega
  have z6 : zm v6 = zm w + 270 + 4 * n := by rw [e6, zm_aN1, z5]; omega
  have c1 : cz v1 = cz w + 1 ∧ mu v1 = mu w ∧ mz v1 = mz w := by rw [e1]; exact ⟨rfl, rfl, rfl⟩
  have c2 : cz v2 = cz w + 2 ∧ mu v2 = mu w ∧ mz v2 = mz w := by rw [e2, cz_aN1, mu_aN1, mz_aN1]; omega
  have c3 : cz v3 = cz w + 3 ∧ mu v3 = mu w ∧ mz v3 = mz w := by rw [e3, cz_aN1, mu_aN1, mz_aN1]; omega
  have c4 : cz v4 = cz w + 4 ∧ mu v4 = mu w ∧ mz v4 = mz w := by rw [e4, cz_aN1, mu_aN1, mz_aN1]; omega
  have c5 : cz v5 = cz w + 5 ∧ mu v5 = mu w ∧ mz v5 = mz w := by rw [e5, cz_aN1, mu_aN1, mz_aN1]; omega
  have c6 : cz v6 = cz w + 6 ∧ mu v6 = mu w ∧ mz v6 = mz w := by rw [e6, cz_aN1, mu_aN1, mz_aN1]; omega
  have t1 : tg v1 (cz w) = 17 := by rw [e1, tg_aN1, if_neg (by omega)]; exact hx
  have t2 : tg v2 (cz w) = 17 := by rw [e2, tg_aN1, if_neg (by omega)]; exact t1
  have t3 : tg v3 (cz w) = 17 := by rw [e3, tg_aN1, if_neg (by omega)]; exact t2
  have t4 : tg v4 (cz w) = 17 := by rw [e4, tg_aN1, if_neg (by omega)]; exact t3
  have t5 : tg v5 (cz w) = 17 := by rw [e5, tg_aN1, if_neg (by omega)]; exact t4
  have t6 : tg v6 (cz w) = 17 := by rw [e6, tg_aN1, if_neg (by omega)]; exact t5
  have hv7 : v7 = knA w (cz w) n := by rw [e7, e6, e5, e4, e3, e2, e1]; rfl
  refine wC_X19_init (Nat.zero_le _) (bC_X19_init_0 ⟨c0, st_arr (n := 120) rfl (by omega) (rm w 120 0 rfl rfl (by omega) (by omega)) (Nat.le_refl _) (by rw [hx]; decide) ?_⟩)
  rw [← e1]
  refine st_arr (n := 120) rfl (by omega) (rm v1 120 125 c1.2.1 c1.2.2 (by omega) (by omega)) (by omega) (by rw [t1]; decide) ?_
  rw [← e2]
  refine st_arr rfl (by omega) (rm v2 n 250 c2.2.1 c2.2.2 (by omega) (by omega)) (by omega) (by rw [t2]; decide) ?_
  rw [← e3]
  refine st_arr rfl (by omega) (rm v3 n (255 + n) c3.2.1 c3.2.2 (by omega) (by omega)) (by omega) (by rw [t3]; decide) ?_
  rw [← e4]
  refine st_arr rfl (by omega) (rm v4 n (260 + 2 * n) c4.2.1 c4.2.2 (by omega) (by omega)) (by omega) (by rw [t4]; decide) ?_
  rw [← e5]
  refine st_arr rfl (by omega) (rm v5 n (265 + 3 * n) c5.2.1 c5.2.2 (by omega) (by omega)) (by omega) (by rw [t5]; decide) ?_
  rw [← e6]
  refine st_arr rfl (by omega) (rm v6 n (270 + 4 * n) c6.2.1 c6.2.2 (by omega) (by omega)) (by omega) (by rw [t6]; decide) ?_
  rw [← e7, hv7]
  have T : tg v7 (cz w) = 17 ∧ fR v7 101 (cz w) = cz w + 6 ∧ fR v7 102 (cz w) = cz w + 7 ∧ tg v7 (cz w + 6) = 102 ∧ ln v7 (cz w + 6) = n ∧ tg v7 (cz w + 7) = 102 ∧ ln v7 (cz w + 7) = n := by
    rw [hv7, knA_tg, knA_fR, knA_fR, knA_tg, knA_ln, knA_tg, knA_ln]
    simp [hx]
  rw [hv7] at T
  obtain ⟨V, hV⟩ : ∃ V, V = knA w (cz w) n := ⟨_, rfl⟩
  rw [← hV] at T hQ ⊢
  refine bC_X19_init_59 ?_
  intro I hI
  have key : ∀ t k : Nat, t + k = n → I (k : Int) (lpW V (cz w + 6) (cz w + 7) k) := by
    intro t
    induction t with
    | zero =>
      intro k hk
      have hk : k = n := by omega
      rw [hk]
      exact hI _ _ (br1 (Int.le_refl _) (bC_X19_init_86 (call := wpC p d) hQ))
    | succ t ih =>
      intro k hk
      obtain ⟨g1, g2, g3, g4, -⟩ := lpW_st (u := V) (A := cz w + 6) (B := cz w + 7) k
      have := ih (k + 1) (by omega)
      obtain ⟨L, hL⟩ : ∃ L, L = lpW V (cz w + 6) (cz w + 7) k := ⟨_, rfl⟩
      have e : lpW V (cz w + 6) (cz w + 7) (k + 1) = qI (qI L (cz w + 6) (k : Nat) (-2147483648)) (cz w + 7) (k : Nat) 2147483647 := by rw [hL]; rfl
      rw [e] at this
      rw [← hL] at g1 g2 g3 g4 ⊢
      obtain ⟨T1, T2, T3, T4, T5, T6, T7⟩ := T
      have f1 : fR L 101 (cz w) = cz w + 6 := by rw [g4]; exact T2
      have f2 : fR L 102 (cz w) = cz w + 7 := by rw [g4]; exact T3
      refine hI _ _ (br0 (by omega) ⟨by rw [g1, T1]; decide, by rw [f1, g1, g2]; exact ⟨T4, by omega, by rw [T5]; omega⟩, fa ⟨?_, ?_, fa (fa ?_)⟩⟩)
      · show hF 102 (tg L (cz w)) = true
        rw [g1, T1]; decide
      · show tg L (fR L 102 (cz w)) = 102 ∧ 0 ≤ (k : Int) ∧ (k : Int) < (ln L (fR L 102 (cz w)) : Nat)
        rw [f2, g1, g2]; exact ⟨T6, by omega, by rw [T7]; omega⟩
      · rw [f1]
        show I (w32 ((k : Int) + 1)) (qI (qI L (cz w + 6) (k : Nat) (-2147483648)) (fR L 102 (cz w)) (k : Nat) 2147483647)
        rw [f2, w32_s (by omega) (by omega)]
        exact this
  exact key n 0 (by omega)
/-- a maker is new -/
theorem sC_minit (hS : TSt p wS τ f F ps rs ro ru) (hF : p + 8 < F) (hwy : wy ≤ 3) {lim : Int} (hm : lim ≤ mu wS ∧ lim ≤ 5 * mz wS) (hlim : zm wS + 440 + 6 * ps.length ≤ lim) (hp8 : p + 8 ≤ cz wS) {Q : ZRes → CW → Prop} (hQ : ∀ w, MW p wS w τ f F ps rs ro ru (cz wS + 1) → KN p w τ f F (cz wS + 1) ps [] [] → (fI w 92 (cz wS + 1) = wy ∧ fI w 93 (cz wS + 1) = 0) → zm w ≤ zm wS + 440 + 6 * ps.length → Q (.inl none) w) : wpC p (d + 2) 132 [ar (cz wS + 1), ar p, ar F, ai (wy : Nat)] (nO wS 16 7) Q := by
  obtain ⟨⟨W, K, tF⟩, hPL, -⟩ := id hS
  have lF := W.le (r := F) (by rw [tF]; decide)
  have hz := W.pz
  obtain ⟨M, hM⟩ : ∃ M, M = cz wS + 1 := ⟨_, rfl⟩
  obtain ⟨n, hn⟩ : ∃ n, n = ps.length := ⟨_, rfl⟩
  have n900 : n ≤ 900 := by rw [hn]; exact hPL.2.2.2.1
  have f51 : fI wS 51 F = n := by rw [hn]; exact hPL.1
  rw [← hn] at hlim hQ
  rw [← hM] at hQ ⊢
  obtain ⟨u1, e1⟩ : ∃ v, v = pR (nO wS 16 7) 97 M p := ⟨_, rfl⟩
  obtain ⟨u2, e2⟩ : ∃ v, v = aN1 u1 103 41 95 M := ⟨_, rfl⟩
  obtain ⟨u3, e3⟩ : ∃ v, v = aN1 u2 102 81 96 M := ⟨_, rfl⟩
  obtain ⟨u4, e4⟩ : ∃ v, v = nO u3 17 8 := ⟨_, rfl⟩
  obtain ⟨k5, e5'⟩ : ∃ v, v = knA u4 (cz u4) n := ⟨_, rfl⟩
  obtain ⟨u5, e5⟩ : ∃ v, v = lpW k5 (cz u4 + 6) (cz u4 + 7) n := ⟨_, rfl⟩
  obtain ⟨u6, e6⟩ : ∃ v, v = pR u5 91 M (cz u3 + 1) := ⟨_, rfl⟩
  obtain ⟨u7, e7⟩ : ∃ v, v = pI u6 92 M wy := ⟨_, rfl⟩
  obtain ⟨u8, e8⟩ : ∃ v, v = aN1 u7 115 n 94 M := ⟨_, rfl⟩
  have hMz : cz wS < M := by omega
  have F1 : Fr [] wS u1 := by rw [e1]; exact ((Fr.refl _ _).snO).spR (Or.inr hMz)
  have F2 : Fr [] wS u2 := by rw [e2]; exact fr_aN1 F1 (Or.inr hMz)
  have F3 : Fr [] wS u3 := by rw [e3]; exact fr_aN1 F2 (Or.inr hMz)
  have F4 : Fr [] wS u4 := by rw [e4]; exact F3.snO
  have W1 : WF p u1 := by rw [e1]; exact (W.snO _ _).spR _ _ _
  have W2 : WF p u2 := by rw [e2]; exact wf_aN1 W1 _ _ _ _
  have W3 : WF p u3 := by rw [e3]; exact wf_aN1 W2 _ _ _ _
  have W4 : WF p u4 := by rw [e4]; exact W3.snO _ _
  have c1 : cz u1 = M := by rw [e1, hM]; rfl
  have c2 : cz u2 = M + 1 := by rw [e2, cz_aN1, c1]
  have c3 : cz u3 = M + 2 := by rw [e3, cz_aN1, c2]
  have c4 : cz u4 = M + 3 := by rw [e4, cz_nO, c3]
  have c5' : cz k5 = M + 10 := by rw [e5']; show cz u4 + 1 + 1 + 1 + 1 + 1 + 1 + 1 = _; omega
  have xz : cz wS < cz u4 := by omega
  have F5' : Fr [] wS k5 ∧ WF p k5 := by
    rw [e5']
    unfold knA
    refine ⟨fr_aN1 (fr_aN1 (fr_aN1 (fr_aN1 (fr_aN1 (fr_aN1 (fr_aN1 F4 (Or.inr xz)) (Or.inr xz)) (Or.inr xz)) (Or.inr xz)) (Or.inr xz)) (Or.inr xz)) (Or.inr xz), ?_⟩
    exact wf_aN1 (wf_aN1 (wf_aN1 (wf_aN1 (wf_aN1 (wf_aN1 (wf_aN1 W4 _ _ _ _) _ _ _ _) _ _ _ _) _ _ _ _) _ _ _ _) _ _ _ _) _ _ _ _
  obtain ⟨F5, W5⟩ := lpW_fr F5'.1 F5'.2 (A := cz u4 + 6) (B := cz u4 + 7) (Or.inr (by omega)) (Or.inr (by omega)) n
  rw [← e5] at F5 W5
  have F6 : Fr [] wS u6 := by rw [e6]; exact F5.spR (Or.inr hMz)
  have W6 : WF p u6 := by rw [e6]; exact W5.spR _ _ _
  have F7 : Fr [] wS u7 := by rw [e7]; exact F6.spI (Or.inr hMz)
  have W7 : WF p u7 := by rw [e7]; exact W6.spI _ _ _ (Or.inl (by decide))
  have F8 : Fr [] wS u8 := by rw [e8]; exact fr_aN1 F7 (Or.inr hMz)
  have W8 : WF p u8 := by rw [e8]; exact wf_aN1 W7 _ _ _ _
  have z1 : zm u1 = zm wS + 12 := by
    rw [e1]
    show ((cu wS + 7 : Nat) : Int) + 5 * ((cz wS + 1 : Nat) : Int) = ((cu wS : Nat) : Int) + 5 * ((cz wS : Nat) : Int) + 12
    omega
  have z2 : zm u2 = zm wS + 58 := by rw [e2, zm_aN1, z1]; omega
  have z3 : zm u3 = zm wS + 144 := by rw [e3, zm_aN1, z2]; omega
  have z4 : zm u4 = zm wS + 157 := by
    have : zm u4 = zm u3 + 13 := by
      rw [e4]
      show ((cu u3 + 8 : Nat) : Int) + 5 * ((cz u3 + 1 : Nat) : Int) = ((cu u3 : Nat) : Int) + 5 * ((cz u3 : Nat) : Int) + 13
      omega
    omega
  have z5' : zm k5 = zm u4 + 275 + 5 * n := by
    rw [e5']
    unfold knA
    simp only [zm_aN1]
    omega
  obtain ⟨l1, l2, l3, l4, l5, l6, l7, l8, l9⟩ := lpW_st (u := k5) (A := cz u4 + 6) (B := cz u4 + 7) n
  rw [← e5] at l1 l2 l3 l4 l5 l6 l7 l8 l9
  have z5 : zm u5 = zm k5 := by unfold zm; rw [l6, l7]
  have z7 : zm u7 = zm u5 := by rw [e7, e6]; rfl
  have z8 : zm u8 = zm wS + 437 + 6 * n := by rw [e8, zm_aN1, z7, z5, z5', z4]; omega
  have tM : ∀ v, tg v M = 16 → (hP 97 (tg v M) = true ∧ hP 95 (tg v M) = true ∧ hP 96 (tg v M) = true ∧ hP 91 (tg v M) = true ∧ hP 92 (tg v M) = true ∧ hP 94 (tg v M) = true) := fun v h => by rw [h]; decide
  have m0 : tg (nO wS 16 7) M = 16 := by rw [hM]; exact if_pos rfl
  have m1 : tg u1 M = 16 := by rw [e1]; exact m0
  have m2 : tg u2 M = 16 := by rw [e2, tg_aN1, if_neg (by omega)]; exact m1
  have m3 : tg u3 M = 16 := by rw [e3, tg_aN1, if_neg (by omega)]; exact m2
  have m4 : tg u4 M = 16 := by rw [e4, tg_nO, if_neg (by omega)]; exact m3
  have k5M : ∀ r, r ≤ M + 3 → tg k5 r = tg u4 r ∧ ln k5 r = ln u4 r := fun r hr => by
    rw [e5', knA_tg, knA_ln]
    constructor
    · rw [if_neg (by omega), if_neg (by omega), if_neg (by omega), if_neg (by omega), if_neg (by omega), if_neg (by omega), if_neg (by omega)]
    · rw [if_neg (by omega), if_neg (by omega), if_neg (by omega), if_neg (by omega), if_neg (by omega), if_neg (by omega), if_neg (by omega)]
  have m5 : tg u5 M = 16 := by rw [l1, (k5M M (by omega)).1]; exact m4
  have m7 : tg u7 M = 16 := by rw [e7, e6]; exact m5
  have x4 : tg u4 (cz u4) = 17 := by rw [c4, e4, tg_nO, if_pos (by omega)]
  have fF : ∀ u, Fr [] wS u → fI u 51 F = n ∧ tg u F = 4 := fun u hu => ⟨by rw [ob.efI (hu.2.2.2.2 F lF (by simp))]; exact f51, by rw [(hu.2.2.2.1 F lF).1]; exact tF⟩
  have rm : ∀ (u : CW) (k : Nat), Fr [] wS u → zm u + k + 5 ≤ lim → cz u + 1 ≤ mz u ∧ cu u + k ≤ mu u := fun u k hu h => room_n (w := u) (k := k) (by rw [hu.emu, hu.emz]; exact hm) h
  refine wC_X18_init (Nat.zero_le _) (bC_X18_init_0 ⟨(tM _ m0).1, fa ⟨by omega, ?_⟩⟩)
  rw [← e1]
  refine st_arr (n := 41) rfl (by omega) (rm u1 41 F1 (by omega)) (by omega) (tM _ m1).2.1 ?_
  rw [← e2]
  refine st_arr (n := 81) rfl (by omega) (rm u2 81 F2 (by omega)) (by omega) (tM _ m2).2.2.1 ?_
  rw [← e3]
  refine ⟨rm u3 8 F3 (by omega), fa ?_⟩
  rw [← e4]
  refine ⟨by rw [(fF u4 F4).2]; decide, ?_⟩
  rw [(fF u4 F4).1, show cz u3 + 1 = cz u4 by omega]
  refine sC_kinit (d := d) x4 W4 (by omega) (lim := lim) (by rw [F4.emu, F4.emz]; exact hm) (by omega) ?_
  rw [← e5', ← e5]
  refine ⟨(tM _ m5).2.2.2.1, fa ?_⟩
  rw [show cz u4 = cz u3 + 1 by omega, ← e6]
  refine ⟨by rw [e6]; exact (tM _ m5).2.2.2.2.1, fa ?_⟩
  rw [← e7]
  refine ⟨by rw [(fF u7 F7).2]; decide, ?_⟩
  refine st_arr (fF u7 F7).1 (by omega) (rm u7 n F7 (by omega)) (by have := F7.1; have : cz u7 = cz u5 := by rw [e7, e6]; rfl
                                                                    omega) (tM _ m7).2.2.2.2.2 ?_
  rw [← e8]
  have c5 : cz u5 = M + 10 := by rw [l6, c5']
  have c7 : cz u7 = M + 10 := by rw [e7, e6]; exact c5
  have c8 : cz u8 = M + 11 := by rw [e8, cz_aN1, c7]
  -- what stands where
  have g97 : fR u8 97 M = p ∧ fR u8 95 M = M + 1 ∧ fR u8 96 M = M + 2 ∧ fR u8 91 M = M + 3 ∧ fR u8 94 M = M + 11 := by
    have q5 : ∀ g, (g = 97 ∨ g = 95 ∨ g = 96) → fR u5 g M = fR u3 g M := fun g hg => by
      rw [l4, e5', knA_fR, if_neg (by omega), if_neg (by omega), if_neg (by omega), if_neg (by omega), if_neg (by omega), if_neg (by omega), if_neg (by omega), e4, fR_nO, if_neg (by omega)]
    have q8 : ∀ g, (g = 97 ∨ g = 95 ∨ g = 96) → fR u8 g M = fR u5 g M := fun g hg => by
      rw [e8, fR_aN1, if_neg (by omega), e7, fR_pI, e6, fR_pR, if_neg (by omega)]
    refine ⟨?_, ?_, ?_, ?_, ?_⟩
    · rw [q8 97 (by omega), q5 97 (by omega), e3, fR_aN1, if_neg (by omega), e2, fR_aN1, if_neg (by omega), e1, fR_pR, if_pos ⟨rfl, rfl⟩]
    · rw [q8 95 (by omega), q5 95 (by omega), e3, fR_aN1, if_neg (by omega), e2, fR_aN1, if_pos ⟨rfl, rfl⟩, c1]
    · rw [q8 96 (by omega), q5 96 (by omega), e3, fR_aN1, if_pos ⟨rfl, rfl⟩, c2]
    · rw [e8, fR_aN1, if_neg (by omega), e7, fR_pI, e6, fR_pR, if_pos ⟨rfl, rfl⟩, c3]
    · rw [e8, fR_aN1, if_pos ⟨rfl, rfl⟩, c7]
  have q8 : ∀ r, r ≤ M + 10 → tg u8 r = tg k5 r ∧ ln u8 r = ln k5 r := fun r hr => by
    rw [e8, tg_aN1, if_neg (by omega), ln_aN1, if_neg (by omega), e7, e6]
    exact ⟨congrFun l1 r, congrFun l2 r⟩
  have r8 : ∀ g, fR u8 g (M + 3) = fR k5 g (M + 3) := fun g => by
    rw [e8, fR_aN1, if_neg (by omega), e7, fR_pI, e6, fR_pR, if_neg (by omega), l4]
  have t11 : tg u8 (M + 11) = 115 ∧ ln u8 (M + 11) = n := by
    rw [e8, tg_aN1, if_pos (by omega), ln_aN1, if_pos (by omega)]
    exact ⟨rfl, rfl⟩
  have hsh : MSh p u8 M n := by
    refine ⟨⟨by omega, by rw [(q8 M (by omega)).1, (k5M M (by omega)).1]; exact m4, g97.2.2.2.1, g97.2.2.2.2, g97.2.1, g97.2.2.1, g97.1⟩, ?_, ?_, ?_, ?_, ?_⟩
    · rw [(q8 _ (by omega)).1, (q8 _ (by omega)).2, (q8 _ (by omega)).1, (q8 _ (by omega)).2, (k5M _ (by omega)).1, (k5M _ (by omega)).2, (k5M _ (by omega)).1, (k5M _ (by omega)).2, e4, tg_nO, if_neg (by omega), ln_nO, tg_nO, if_neg (by omega), e3, tg_aN1, if_neg (by omega), ln_aN1, if_neg (by omega), tg_aN1, if_pos (by omega), ln_aN1, if_pos (by omega), e2, tg_aN1, if_pos (by omega), ln_aN1, if_pos (by omega)]
      exact ⟨rfl, rfl, rfl, rfl⟩
    · rw [(q8 _ (by omega)).1, (k5M _ (by omega)).1, ← c4]
      refine ⟨x4, ?_⟩
      rw [c4, r8, r8, r8, r8, r8, r8, r8, e5', knA_fR, knA_fR, knA_fR, knA_fR, knA_fR, knA_fR, knA_fR, c4]
      simp
    · rw [(q8 _ (by omega)).1, (q8 _ (by omega)).2, (q8 _ (by omega)).1, (q8 _ (by omega)).2, e5', knA_tg, knA_ln, knA_tg, knA_ln, c4]
      simp
    · rw [(q8 _ (by omega)).1, (q8 _ (by omega)).2, (q8 _ (by omega)).1, (q8 _ (by omega)).2, (q8 _ (by omega)).1, (q8 _ (by omega)).2, e5', knA_tg, knA_ln, knA_tg, knA_ln, knA_tg, knA_ln, c4]
      simp
    · rw [(q8 (M + 9) (by omega)).1, (q8 (M + 9) (by omega)).2, (q8 (M + 10) (by omega)).1, (q8 (M + 10) (by omega)).2, t11.1, t11.2, e5', knA_tg, knA_ln, knA_tg, knA_ln, c4]
      simp
  have mw : MW p wS u8 τ f F ps rs ro ru M := ⟨hS, hM, F8, W8, by rw [← hn]; exact hsh, by omega⟩
  have a8 : ∀ (r : Nat) (i : Int), r ≤ M + 10 → aI u8 r i = aI u5 r i := fun r i hr => by rw [e8, aI_aN1, if_neg (by omega), e7, e6]; rfl
  have i8 : ∀ g, g ≠ 92 → fI u8 g M = fI (nO wS 16 7) g M := fun g hg => by
    rw [e8, fI_aN1, e7, fI_pI, if_neg (fun q => hg q.1), e6]
    show fI u5 g M = _
    rw [l3, e5']
    show fI u4 g M = _
    rw [e4, fI_nO, if_neg (by omega), e3, fI_aN1, e2, fI_aN1, e1]
    rfl
  refine hQ u8 mw ⟨fun i π hi => ?_, ⟨?_, Nat.zero_le _⟩, fun i y hi => by simp at hi⟩ ⟨?_, ?_⟩ (by omega)
  · have il : i < n := by rw [hn]; exact (List.getElem?_eq_some_iff.mp hi).1
    refine ⟨fun _ => ?_, fun _ => ?_, fun _ b hb => (by cases hb), fun _ b hb => (by cases hb), fun _ b hb => (by cases hb), fun _ b hb => (by cases hb)⟩
    · rw [a8 _ _ (by omega), a8 _ _ (by omega), e5, lpW_aI (by omega), lpW_aI (by omega), if_pos ⟨by omega, by omega, by omega⟩, if_neg (by omega), if_pos ⟨by omega, by omega, by omega⟩]
      exact ⟨rfl, rfl⟩
    · rw [a8 _ _ (by omega), e5, lpW_aI (by omega), if_neg (by omega), if_neg (by omega), e5', knA_aI, c4, if_neg (by omega), if_neg (by omega), if_neg (by omega), if_neg (by omega), if_pos (by omega)]
      rfl
  · rw [e8, fI_aN1, e7, fI_pI, if_neg (by omega), e6]
    show fI u5 105 (M + 3) = _
    rw [l3, e5']
    show fI u4 105 (M + 3) = _
    rw [e4, fI_nO, if_pos (by omega)]
    rfl
  · rw [e8, fI_aN1, e7, fI_pI, if_pos ⟨rfl, rfl⟩]
  · rw [i8 93 (by decide), fI_nO, if_pos (by omega)]
end ZMkr
