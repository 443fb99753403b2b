/-! patterns of both: the component's objects against the reference's rows -/
section ZPat
variable {p d e : Nat} {w : CW} {τ : TW}
/-- constructors -/
theorem sC_iPat {x : Nat} (hx : x ≠ 0) (hp : hP 68 (tg w x) = true) {Q : ZRes → CW → Prop} (hQ : Q (.inl none) (pI w 68 x (-1))) : wpC p (d + 1) 91 [ar x] w Q :=
  wC_X6_init (Nat.zero_le _) ⟨hx, hp, fa hQ⟩
theorem sC_iAny {x : Nat} (hx : x ≠ 0) (ht : tg w x = 6) {Q : ZRes → CW → Prop} (hQ : Q (.inl none) (pI w 68 x (-1))) : wpC p (d + 2) 95 [ar x] w Q :=
  wC_X7_init (Nat.zero_le _) ⟨hx, sC_iPat hx (by rw [ht]; decide) hQ⟩
theorem sC_iTest {x : Nat} (hx : x ≠ 0) (hp : hP 68 (tg w x) = true) {Q : ZRes → CW → Prop} (hQ : Q (.inl none) (pI w 68 x (-1))) : wpC p (d + 2) 97 [ar x] w Q :=
  wC_X8_init (Nat.zero_le _) ⟨hx, sC_iPat hx hp hQ⟩
theorem sC_iRange {x : Nat} {lo hi : Int} (hx : x ≠ 0) (ht : tg w x = 7) {Q : ZRes → CW → Prop} (hQ : Q (.inl none) (pI (pI (pI w 68 x (-1)) 69 x lo) 70 x hi)) : wpC p (d + 3) 99 [ar x, ai lo, ai hi] w Q :=
  wC_X9_init (Nat.zero_le _) ⟨hx, sC_iTest hx (by rw [ht]; decide) ⟨by show hP 69 (tg w x) = true; rw [ht]; decide, fa ⟨by show hP 70 (tg w x) = true; rw [ht]; decide, fa hQ⟩⟩⟩
theorem sC_iWord {x : Nat} {v : Int} (hx : x ≠ 0) (ht : tg w x = 10) {Q : ZRes → CW → Prop} (hQ : Q (.inl none) (pI (pI w 68 x (-1)) 74 x v)) : wpC p (d + 3) 111 [ar x, al v] w Q :=
  wC_X12_init (Nat.zero_le _) ⟨hx, sC_iTest hx (by rw [ht]; decide) ⟨by show hP 74 (tg w x) = true; rw [ht]; decide, fa hQ⟩⟩
theorem sC_iSame {x : Nat} {v : Int} (hx : x ≠ 0) (ht : tg w x = 11) (hv : v = 0 ∨ v = 1) {Q : ZRes → CW → Prop} (hQ : Q (.inl none) (pI (pI w 68 x (-1)) 75 x v)) : wpC p (d + 3) 114 [ar x, ai v] w Q :=
  wC_X13_init (Nat.zero_le _) ⟨hx, sC_iTest hx (by rw [ht]; decide) ⟨by show hP 75 (tg w x) = true; rw [ht]; decide, hv, fa hQ⟩⟩
theorem sC_iNone {x : Nat} (hx : x ≠ 0) (ht : tg w x = 12) {Q : ZRes → CW → Prop} (hQ : Q (.inl none) (pI w 68 x (-1))) : wpC p (d + 3) 117 [ar x] w Q :=
  wC_X14_init (Nat.zero_le _) ⟨hx, sC_iTest hx (by rw [ht]; decide) hQ⟩
theorem sC_iKinded {x k a : Nat} (hx : x ≠ 0) (ht : tg w x = 8) {Q : ZRes → CW → Prop} (hQ : Q (.inl none) (pR (pR (pI w 68 x (-1)) 71 x k) 72 x a)) : wpC p (d + 3) 102 [ar x, ar k, ar a] w Q :=
  wC_X10_init (Nat.zero_le _) ⟨hx, sC_iTest hx (by rw [ht]; decide) ⟨by show hP 71 (tg w x) = true; rw [ht]; decide, fa ⟨by show hP 72 (tg w x) = true; rw [ht]; decide, fa hQ⟩⟩⟩
theorem sC_iEither {x a : Nat} (hx : x ≠ 0) (ht : tg w x = 9) {Q : ZRes → CW → Prop} (hQ : Q (.inl none) (pR (pI w 68 x (-1)) 73 x a)) : wpC p (d + 2) 107 [ar x, ar a] w Q :=
  wC_X11_init (Nat.zero_le _) ⟨hx, sC_iPat hx (by rw [ht]; decide) ⟨by show hP 73 (tg w x) = true; rw [ht]; decide, fa hQ⟩⟩
/-- children of a row of patterns: m of them, c; all below N -/
def Chn (τ : TW) (N q m : Nat) (c : Nat → Nat) : Prop := (m = 0 → tA τ 22 q = -4) ∧ (0 < m → tA τ 22 q = c 0) ∧ (∀ i, i + 1 < m → tA τ 23 (c i) = c (i + 1)) ∧ (0 < m → tA τ 23 (c (m - 1)) = -4) ∧ ∀ i, i < m → q < c i ∧ c i < N
/-- up to where a child reaches -/
def nxt (c : Nat → Nat) (m N i : Nat) : Nat := if i + 1 < m then c (i + 1) else N
/-- how many rows the first i + 1 children make -/
def rwF (mul : Bool) (τ : TW) (c : Nat → Nat) : Nat → Int
  | 0 => tA τ 26 (c 0)
  | i + 1 => min 1000 (if mul then rwF mul τ c i * tA τ 26 (c (i + 1)) else rwF mul τ c i + tA τ 26 (c (i + 1)))
/-- the names that a row of patterns binds itself -/
def own (τ : TW) (q k : Nat) : Prop := (k : Int) = tA τ 24 q ∨ (k : Int) = tA τ 25 q
/-- an array of patterns -/
def PArr (b : Nat) (w : CW) (a m : Nat) : Prop := tg w a = 114 ∧ ln w a = m ∧ b < a
/-- tags of patterns and their arrays -/
def ptg (t : Nat) : Prop := (6 ≤ t ∧ t ≤ 12) ∨ t = 114
/-- an object r is the row q, but its name: nm. It binds D, whatever way is taken, of the sorts Sn; b: all is newer -/
def PCore (P : Nat → Nat → Nat → (Nat → Prop) → Prop) (p b : Nat) (w : CW) (τ : TW) (Sn : Nat → Int) (N r q : Nat) (D : Nat → Prop) (nm : Int) : Prop :=
  q < N ∧ b < r ∧ fI w 68 r = nm ∧ (∀ k, own τ q k → Sn k = tA τ 18 q) ∧
  ((tA τ 17 q = 0 ∧ tg w r = 6 ∧ tA τ 26 q = 1 ∧ ∀ k, D k ↔ own τ q k) ∨
   (tA τ 17 q = 1 ∧ tg w r = 7 ∧ tA τ 26 q = 1 ∧ (fI w 69 r = tA τ 19 q ∧ fI w 70 r = tA τ 20 q ∧ -999999999 ≤ tA τ 19 q ∧ tA τ 19 q ≤ tA τ 20 q ∧ tA τ 20 q ≤ 999999999 ∧ tA τ 18 q = 0) ∧ ∀ k, D k ↔ own τ q k) ∨
   (tA τ 17 q = 2 ∧ tg w r = 11 ∧ tA τ 26 q = 1 ∧ (fI w 75 r = tA τ 19 q ∧ (tA τ 19 q = 0 ∨ tA τ 19 q = 1) ∧ tA τ 18 q = 1) ∧ ∀ k, D k ↔ own τ q k) ∨
   (tA τ 17 q = 3 ∧ tg w r = 10 ∧ tA τ 26 q = 1 ∧ (fI w 74 r = tA τ 21 q ∧ tA τ 18 q = 2) ∧ ∀ k, D k ↔ own τ q k) ∨
   (tA τ 17 q = 4 ∧ tg w r = 12 ∧ tA τ 26 q = 1 ∧ 3 ≤ tA τ 18 q ∧ ∀ k, D k ↔ own τ q k) ∨
   (tA τ 17 q = 5 ∧ tg w r = 8 ∧ 3 ≤ tA τ 18 q ∧ ∃ k m c, tA τ 19 q = (k : Nat) ∧ k < nK τ ∧ fR w 71 r = kd w p k ∧ PArr b w (fR w 72 r) m ∧ (m = 0 ∨ (m : Int) = tA τ 14 k) ∧ Chn τ N q m c ∧ (m = 0 → tA τ 26 q = 1) ∧ (0 < m → tA τ 26 q = rwF true τ c (m - 1)) ∧ (∀ i, i < m → tA τ 18 (c i) = tA τ 15 (4 * k + i : Nat)) ∧ ∃ Di : Nat → Nat → Prop, (∀ i, i < m → aR w (fR w 72 r) i < r ∧ P (nxt c m N i) (aR w (fR w 72 r) i) (c i) (Di i)) ∧ (∀ n, D n ↔ own τ q n ∨ ∃ i, i < m ∧ Di i n) ∧ ∀ n, own τ q n → ¬ ∃ i, i < m ∧ Di i n) ∨
   (tA τ 17 q = 6 ∧ tg w r = 9 ∧ ∃ m c, 1 ≤ m ∧ m ≤ 6 ∧ PArr b w (fR w 73 r) m ∧ Chn τ N q m c ∧ tA τ 26 q = rwF false τ c (m - 1) ∧ (∀ i, i < m → tA τ 18 (c i) = tA τ 18 q) ∧ ∃ D0 : Nat → Prop, (∀ i, i < m → aR w (fR w 73 r) i < r ∧ P (nxt c m N i) (aR w (fR w 73 r) i) (c i) D0) ∧ (∀ n, D n ↔ own τ q n ∨ D0 n) ∧ ∀ n, own τ q n → ¬ D0 n))
/-- an object r is the row q, with all below it (n: how deep at most) -/
def PRel (p b : Nat) (w : CW) (τ : TW) (Sn : Nat → Int) : Nat → Nat → Nat → Nat → (Nat → Prop) → Prop
  | 0, _, _, _, _ => False
  | n + 1, N, r, q, D => (tA τ 24 q = -4 ∨ (0 ≤ tA τ 24 q ∧ tA τ 24 q < 8)) ∧ (tA τ 25 q = -4 ∨ (0 ≤ tA τ 25 q ∧ tA τ 25 q < 8)) ∧
      (((tA τ 24 q = -4 ∨ tA τ 25 q = -4) ∧ PCore (PRel p b w τ Sn n) p b w τ Sn N r q D (if tA τ 24 q = -4 then (if tA τ 25 q = -4 then -1 else tA τ 25 q) else tA τ 24 q)) ∨
       (tA τ 24 q ≠ -4 ∧ tA τ 25 q ≠ -4 ∧ tg w r = 9 ∧ b < r ∧ fI w 68 r = tA τ 25 q ∧ PArr b w (fR w 73 r) 1 ∧ aR w (fR w 73 r) 0 < r ∧ PCore (PRel p b w τ Sn n) p b w τ Sn N (aR w (fR w 73 r) 0) q D (tA τ 24 q)))
/-- what may be written beside the patterns up to r -/
def Tok (b : Nat) (w : CW) (T : List Nat) (r : Nat) : Prop := ∀ x, x ∈ T → x ≤ b ∨ cz w < x ∨ ¬ ptg (tg w x) ∨ (tg w x ≠ 114 ∧ r < x)
theorem Tok.lt {b r r' : Nat} {T : List Nat} (h : Tok b w T r) (hr : r' < r) : Tok b w T r' := fun x hx => by
  rcases h x hx with y | y | y | ⟨y, z⟩
  · exact Or.inl y
  · exact Or.inr (Or.inl y)
  · exact Or.inr (Or.inr (Or.inl y))
  · exact Or.inr (Or.inr (Or.inr ⟨y, by omega⟩))
theorem Tok.ob {b r : Nat} {T : List Nat} (h : Tok b w T r) (W : WF p w) (hb : b < r) (ht : 6 ≤ tg w r ∧ tg w r ≤ 12) : r ∉ T := by
  intro hm
  have := W.le (r := r) (by omega)
  rcases h r hm with y | y | y | ⟨y, z⟩
  · omega
  · omega
  · exact y (Or.inl ht)
  · omega
theorem Tok.ar {b r a : Nat} {T : List Nat} (h : Tok b w T r) (W : WF p w) (hb : b < a) (ht : tg w a = 114) : a ∉ T := by
  intro hm
  have := W.le (r := a) (by omega)
  rcases h a hm with y | y | y | ⟨y, z⟩
  · omega
  · omega
  · exact y (Or.inr ht)
  · exact y ht
/-- a pattern's root, by what stays of it; E: names that come to it -/
theorem PCore.gen {P P' : Nat → Nat → Nat → (Nat → Prop) → Prop} {w' : CW} {τ' : TW} {b b' N r q : Nat} {D D' E : Nat → Prop} {nm nm' : Int} {Sn Sn' : Nat → Int} (hb : b' ≤ b)
    (hr : tg w' r = tg w r ∧ (∀ f, f ≠ 68 → fI w' f r = fI w f r) ∧ (∀ f, fR w' f r = fR w f r) ∧ fI w' 68 r = nm') (ha : ∀ a m, PArr b w a m → PArr b w' a m ∧ ∀ i, aR w' a i = aR w a i)
    (hτ : ∀ f, f ∈ [17, 18, 19, 20, 21, 22, 26] → ∀ x : Nat, q ≤ x → x < N → tA τ' f x = tA τ f x) (hnx : ∀ x : Nat, q < x → x < N → tA τ' 23 x = tA τ 23 x)
    (hk : nK τ ≤ nK τ' ∧ ∀ k, k < nK τ → kd w' p k = kd w p k ∧ tA τ' 14 k = tA τ 14 k ∧ ∀ i : Nat, (i : Int) < tA τ 14 k → tA τ' 15 (4 * k + i : Nat) = tA τ 15 (4 * k + i : Nat))
    (hown : ∀ k, own τ' q k ↔ own τ q k ∨ E k) (hD : ∀ k, D' k ↔ D k ∨ E k) (hE : ∀ k, E k → ¬ D k) (hSo : ∀ k, own τ' q k → Sn' k = tA τ 18 q)
    (hP : ∀ M a c F, q < c → c < N → M ≤ N → a < r → (∀ k, F k → D k) → P M a c F → P' M a c F) (h : PCore P p b w τ Sn N r q D nm) : PCore P' p b' w' τ' Sn' N r q D' nm' := by
  obtain ⟨h1, h2, h3, h5, h4⟩ := h
  obtain ⟨r1, r2, r3, r4⟩ := hr
  have g : ∀ f, f ∈ [17, 18, 19, 20, 21, 22, 26] → tA τ' f q = tA τ f q := fun f hf => hτ f hf q (Nat.le_refl _) h1
  have hchn : ∀ {m c}, Chn τ N q m c → Chn τ' N q m c := by
    intro m c hc
    obtain ⟨c1, c2, c3, c4, c5⟩ := hc
    refine ⟨fun z => by rw [g 22 (by decide)]; exact c1 z, fun z => by rw [g 22 (by decide)]; exact c2 z, fun i hi => ?_, fun z => ?_, c5⟩
    · have := c5 i (by omega)
      rw [hnx _ this.1 this.2]; exact c3 i hi
    · have := c5 (m - 1) (by omega)
      rw [hnx _ this.1 this.2]; exact c4 z
  have hrw : ∀ {mul m c}, Chn τ N q m c → ∀ i, i < m → rwF mul τ' c i = rwF mul τ c i := by
    intro mul m c hc i
    have h26 : ∀ j, j < m → tA τ' 26 (c j) = tA τ 26 (c j) := fun j hj => hτ 26 (by decide) _ (Nat.le_of_lt (hc.2.2.2.2 j hj).1) (hc.2.2.2.2 j hj).2
    induction i with
    | zero => intro hi; exact h26 0 hi
    | succ i ih => intro hi; unfold rwF; rw [ih (by omega), h26 (i + 1) hi]
  have hnxt : ∀ {m c}, Chn τ N q m c → ∀ i, i < m → nxt c m N i ≤ N := by
    intro m c hc i hi
    unfold nxt
    split
    · rename_i z; exact Nat.le_of_lt (hc.2.2.2.2 _ z).2
    · exact Nat.le_refl _
  have hPA : ∀ {a m}, PArr b w' a m → PArr b' w' a m := fun y => ⟨y.1, y.2.1, Nat.lt_of_le_of_lt hb y.2.2⟩
  have lf : (∀ k, D k ↔ own τ q k) → ∀ k, D' k ↔ own τ' q k := fun y k => by rw [hD, hown, y]
  refine ⟨h1, Nat.lt_of_le_of_lt hb h2, r4, fun k hk => by rw [g 18 (by decide)]; exact hSo k hk, ?_⟩
  rw [r1, g 17 (by decide), g 18 (by decide), g 19 (by decide), g 20 (by decide), g 21 (by decide), g 26 (by decide), r2 69 (by decide), r2 70 (by decide), r2 74 (by decide), r2 75 (by decide), r3, r3, r3]
  rcases h4 with ⟨z1, z2, z3, z4⟩ | ⟨z1, z2, z3, z4, z5⟩ | ⟨z1, z2, z3, z4, z5⟩ | ⟨z1, z2, z3, z4, z5⟩ | ⟨z1, z2, z3, z4, z5⟩ | ⟨z1, z2, z3, k, m, c, y1, y2, y3, y4, y5, y6, y7, y8, y9, Di, x1, x2, x3⟩ | ⟨z1, z2, m, c, y1, y2, y3, y4, y5, y6, D0, x1, x2, x3⟩
  · exact Or.inl ⟨z1, z2, z3, lf z4⟩
  · exact Or.inr (Or.inl ⟨z1, z2, z3, z4, lf z5⟩)
  · exact Or.inr (Or.inr (Or.inl ⟨z1, z2, z3, z4, lf z5⟩))
  · exact Or.inr (Or.inr (Or.inr (Or.inl ⟨z1, z2, z3, z4, lf z5⟩)))
  · exact Or.inr (Or.inr (Or.inr (Or.inr (Or.inl ⟨z1, z2, z3, z4, lf z5⟩))))
  · refine Or.inr (Or.inr (Or.inr (Or.inr (Or.inr (Or.inl ⟨z1, z2, z3, k, m, c, y1, Nat.lt_of_lt_of_le y2 hk.1, by rw [(hk.2 k y2).1]; exact y3, hPA (ha _ _ y4).1, ?_, hchn y6, y7, fun z => ?_, fun i hi => ?_, Di, fun i hi => ?_, fun n => ?_, fun n hn => ?_⟩)))))
    · rw [(hk.2 k y2).2.1]; exact y5
    · rw [hrw y6 (m - 1) (by omega)]; exact y8 z
    · rw [hτ 18 (by decide) _ (Nat.le_of_lt (y6.2.2.2.2 i hi).1) (y6.2.2.2.2 i hi).2, (hk.2 k y2).2.2 i (by omega)]; exact y9 i hi
    · rw [(ha _ _ y4).2]; exact ⟨(x1 i hi).1, hP _ _ _ _ (y6.2.2.2.2 i hi).1 (y6.2.2.2.2 i hi).2 (hnxt y6 i hi) (x1 i hi).1 (fun k q => (x2 k).mpr (Or.inr ⟨i, hi, q⟩)) (x1 i hi).2⟩
    · rw [hD, x2, hown]
      constructor
      · rintro ((q | q) | q)
        · exact Or.inl (Or.inl q)
        · exact Or.inr q
        · exact Or.inl (Or.inr q)
      · rintro ((q | q) | q)
        · exact Or.inl (Or.inl q)
        · exact Or.inr q
        · exact Or.inl (Or.inr q)
    · rcases (hown n).mp hn with q | q
      · exact x3 n q
      · exact fun y => hE n q ((x2 n).mpr (Or.inr y))
  · refine Or.inr (Or.inr (Or.inr (Or.inr (Or.inr (Or.inr ⟨z1, z2, m, c, y1, y2, hPA (ha _ _ y3).1, hchn y4, ?_, fun i hi => ?_, D0, fun i hi => ?_, fun n => ?_, fun n hn => ?_⟩)))))
    · rw [hrw y4 (m - 1) (by omega)]; exact y5
    · rw [hτ 18 (by decide) _ (Nat.le_of_lt (y4.2.2.2.2 i hi).1) (y4.2.2.2.2 i hi).2]; exact y6 i hi
    · rw [(ha _ _ y3).2]; exact ⟨(x1 i hi).1, hP _ _ _ _ (y4.2.2.2.2 i hi).1 (y4.2.2.2.2 i hi).2 (hnxt y4 i hi) (x1 i hi).1 (fun k q => (x2 k).mpr (Or.inr q)) (x1 i hi).2⟩
    · rw [hD, x2, hown]
      constructor
      · rintro ((q | q) | q)
        · exact Or.inl (Or.inl q)
        · exact Or.inr q
        · exact Or.inl (Or.inr q)
      · rintro ((q | q) | q)
        · exact Or.inl (Or.inl q)
        · exact Or.inr q
        · exact Or.inl (Or.inr q)
    · rcases (hown n).mp hn with q | q
      · exact x3 n q
      · exact fun y => hE n q ((x2 n).mpr (Or.inr y))
theorem PCore.tg {P : Nat → Nat → Nat → (Nat → Prop) → Prop} {b N r q : Nat} {D : Nat → Prop} {nm : Int} {Sn : Nat → Int} (h : PCore P p b w τ Sn N r q D nm) : 6 ≤ tg w r ∧ tg w r ≤ 12 := by
  rcases h.2.2.2.2 with z | z | z | z | z | z | z <;> (have := z.2.1; omega)
theorem PCore.ar {b : Nat} {w' : CW} {r : Nat} (W : WF p w) {T : List Nat} (hf : Fr T w w') (hT : Tok b w T r) : ∀ a m, PArr b w a m → PArr b w' a m ∧ ∀ i, aR w' a i = aR w a i := by
  intro a m ha
  have oa := hf.2.2.2.2 a (W.le (by rw [ha.1]; decide)) (hT.ar W ha.2.2 ha.1)
  exact ⟨⟨by rw [ob.etg oa]; exact ha.1, by rw [ob.eln oa]; exact ha.2.1, ha.2.2⟩, fun i => ob.eaR oa i⟩
/-- all that a pattern is made of stays; the base may go down -/
theorem PRel.fr {w' : CW} {τ' : TW} {b b' : Nat} {Sn Sn' : Nat → Int} (W : WF p w) {T : List Nat} (hf : Fr T w w') (hb : b' ≤ b)
    (hk : nK τ ≤ nK τ' ∧ ∀ k, k < nK τ → kd w' p k = kd w p k ∧ tA τ' 14 k = tA τ 14 k ∧ ∀ i : Nat, (i : Int) < tA τ 14 k → tA τ' 15 (4 * k + i : Nat) = tA τ 15 (4 * k + i : Nat)) : ∀ n N r q D, Tok b w T r → (∀ f, f ∈ [17, 18, 19, 20, 21, 22, 24, 25, 26] → ∀ x : Nat, q ≤ x → x < N → tA τ' f x = tA τ f x) → (∀ x : Nat, q < x → x < N → tA τ' 23 x = tA τ 23 x) → (∀ k, D k → Sn' k = Sn k) → PRel p b w τ Sn n N r q D → PRel p b' w' τ' Sn' n N r q D := by
  intro n
  induction n with
  | zero => intro N r q D _ _ _ _ h; exact h.elim
  | succ n ih =>
    intro N r q D hT hτ hnx hS h
    obtain ⟨h1, h2, h⟩ := h
    have hq : q < N := by
      rcases h with ⟨_, h⟩ | ⟨_, _, _, _, _, _, _, h⟩ <;> exact h.1
    have e24 : tA τ' 24 q = tA τ 24 q := hτ 24 (by decide) q (Nat.le_refl _) hq
    have e25 : tA τ' 25 q = tA τ 25 q := hτ 25 (by decide) q (Nat.le_refl _) hq
    have eo : ∀ k, own τ' q k ↔ own τ q k ∨ False := fun k => by unfold own; rw [e24, e25, or_false]
    have hDo : ∀ {r nm}, PCore (PRel p b w τ Sn n) p b w τ Sn N r q D nm → ∀ k, own τ q k → D k := by
      intro r nm hc k hk
      rcases hc.2.2.2.2 with z | z | z | z | z | z | z
      · exact (z.2.2.2 k).mpr hk
      · exact (z.2.2.2.2 k).mpr hk
      · exact (z.2.2.2.2 k).mpr hk
      · exact (z.2.2.2.2 k).mpr hk
      · exact (z.2.2.2.2 k).mpr hk
      · obtain ⟨_, _, _, _, _, _, _, _, _, _, _, _, _, _, _, _, _, x⟩ := z
        exact (x.1 k).mpr (Or.inl hk)
      · obtain ⟨_, _, _, _, _, _, _, _, _, _, _, _, x, _⟩ := z
        exact (x k).mpr (Or.inl hk)
    have core : ∀ {r nm}, Tok b w T r → PCore (PRel p b w τ Sn n) p b w τ Sn N r q D nm → PCore (PRel p b' w' τ' Sn' n) p b' w' τ' Sn' N r q D nm := by
      intro r nm hT hc
      have o := hf.2.2.2.2 r (W.le (by have := hc.tg; omega)) (hT.ob W hc.2.1 hc.tg)
      refine PCore.gen (E := fun _ => False) hb ⟨ob.etg o, fun f _ => ob.efI o f, fun f => ob.efR o f, (ob.efI o 68).trans hc.2.2.1⟩ (PCore.ar W hf hT) (fun f hf => hτ f (by simp only [List.mem_cons, List.not_mem_nil, or_false] at hf ⊢; omega)) hnx hk eo (fun k => by rw [or_false]) (fun k h => h.elim) (fun k hk => ?_) (fun M a c F h3 h4 h5 h6 h7 h8 => ?_) hc
      · have ho : own τ q k := by rcases (eo k).mp hk with y | y; exact y; exact y.elim
        rw [hS k (hDo hc k ho)]
        exact hc.2.2.2.1 k ho
      · exact ih M a c F (hT.lt h6) (fun f hf x h9 h10 => hτ f hf x (by omega) (by omega)) (fun x h9 h10 => hnx x (by omega) (by omega)) (fun k q => hS k (h7 k q)) h8
    unfold PRel
    rw [e24, e25]
    refine ⟨h1, h2, ?_⟩
    rcases h with ⟨a, c⟩ | ⟨a, c, c2, c3, c4, c5, c6, c7⟩
    · exact Or.inl ⟨a, core hT c⟩
    · have o := hf.2.2.2.2 r (W.le (by rw [c2]; decide)) (hT.ob W c3 (by rw [c2]; decide))
      have oa := PCore.ar W hf hT _ _ c5
      refine Or.inr ⟨a, c, by rw [ob.etg o]; exact c2, Nat.lt_of_le_of_lt hb c3, by rw [ob.efI o]; exact c4, ?_, ?_, ?_⟩
      · rw [ob.efR o]; exact ⟨oa.1.1, oa.1.2.1, Nat.lt_of_le_of_lt hb c5.2.2⟩
      · rw [ob.efR o, oa.2]; exact c6
      · rw [ob.efR o, oa.2]; exact core (hT.lt c6) c7
/-- the base may go down -/
theorem PRel.base {b b' n N r q : Nat} {Sn : Nat → Int} {D : Nat → Prop} (W : WF p w) (hb : b' ≤ b) (h : PRel p b w τ Sn n N r q D) : PRel p b' w τ Sn n N r q D :=
  PRel.fr W (Fr.refl [] w) hb ⟨Nat.le_refl _, fun _ _ => ⟨rfl, rfl, fun _ _ => rfl⟩⟩ n N r q D (fun x hx => by cases hx) (fun _ _ _ _ _ => rfl) (fun _ _ _ => rfl) (fun _ _ => rfl) h
/-- what a pattern's root is, without its as -/
theorem PRel.root {b n N r q : Nat} {Sn : Nat → Int} {D : Nat → Prop} (h : PRel p b w τ Sn (n + 1) N r q D) (h25 : tA τ 25 q = -4) : (tA τ 24 q = -4 ∨ (0 ≤ tA τ 24 q ∧ tA τ 24 q < 8)) ∧ PCore (PRel p b w τ Sn n) p b w τ Sn N r q D (if tA τ 24 q = -4 then -1 else tA τ 24 q) := by
  obtain ⟨h1, h2, h⟩ := h
  have e25 : tA τ 25 q = -4 := h25
  rcases h with ⟨a, c⟩ | ⟨a, c, _⟩
  · rw [if_pos e25] at c
    exact ⟨h1, c⟩
  · exact absurd e25 c
end ZPat
