/-! a rule of both: what it is, and that it stays -/
section ZRule1
variable {p b e d : Nat} {w : CW} {τ : TW}
/-- the sorts of the names of the rule R -/
def SnT (τ : TW) (R n : Nat) : Int := tA τ 30 (8 * R + n : Nat)
/-- the object x is the i-th rule of the function f -/
def RuR (p : Nat) (w : CW) (τ : TW) (f i x lo hi : Nat) : Prop :=
  (tg w x = 5 ∧ p + 8 < x ∧ fI w 56 x = i ∧ fI w 57 x = tA τ 48 (16 * f + i : Nat)) ∧
  ∃ kn : Nat, (tA τ 28 (16 * f + i : Nat) = kn ∧ kn ≤ 8 ∧ IArr p w (fR w 67 x) 8 ∧ ∀ n : Nat, n < kn → aI w (fR w 67 x) n = SnT τ (16 * f + i) n) ∧
  (∃ (m N : Nat) (c : Nat → Nat) (Di : Nat → Nat → Prop), (tA τ 43 f = m ∧ 1 ≤ m ∧ m ≤ 3 ∧ PArr (p + 8) w (fR w 58 x) m ∧ (lo ≤ c 0 ∧ N ≤ hi ∧ hi ≤ np τ) ∧ tA τ 47 (16 * f + i : Nat) = c 0) ∧
    ((∀ j, j + 1 < m → tA τ 23 (c j) = c (j + 1)) ∧ tA τ 23 (c (m - 1)) = -4 ∧ (∀ j, j < m → c j < N) ∧ (∀ j, j + 1 < m → c j < c (j + 1)) ∧ ∀ j, j < m → PRel p (p + 8) w τ (SnT τ (16 * f + i)) 7 (nxt c m N j) (aR w (fR w 58 x) j) (c j) (Di j)) ∧
    (∀ j, j < m → tA τ 18 (c j) = tA τ 44 (3 * f + j : Nat)) ∧ tA τ 49 (16 * f + i : Nat) = prF τ c m ∧ ∀ n, n < kn ↔ ∃ j, j < m ∧ Di j n) ∧
  ((tA τ 53 (16 * f + i : Nat) = 0 ∧ fR w 59 x = 0) ∨ GdR (fun n => n < kn ∧ SnT τ (16 * f + i) n = 0) p w τ (fR w 59 x) (16 * f + i)) ∧
  AnR (fun n => n < kn) (SnT τ (16 * f + i)) p (p + 8) w τ x (16 * f + i)
/-- what may be written beside rules -/
def TkF (p : Nat) (w : CW) (T : List Nat) : Prop := ∀ x, x ∈ T → x ≤ p + 8 ∨ cz w < x ∨ tg w x = 4 ∨ tg w x = 117 ∨ tg w x = 115 ∨ tg w x = 3
theorem TkF.no {T : List Nat} (h : TkF p w T) (W : WF p w) {r : Nat} (hr : p + 8 < r) (ht : tg w r ≠ 0 ∧ tg w r ≠ 4 ∧ tg w r ≠ 117 ∧ tg w r ≠ 115 ∧ tg w r ≠ 3) : r ∉ T := by
  intro hm
  have := W.le (r := r) ht.1
  rcases h r hm with y | y | y | y | y | y <;> omega
theorem TkF.tok {T : List Nat} (h : TkF p w T) {b r : Nat} (hb : p + 8 ≤ b) : Tok b w T r := fun x hx => by
  rcases h x hx with y | y | y | y | y | y
  · exact Or.inl (by omega)
  · exact Or.inr (Or.inl y)
  · exact Or.inr (Or.inr (Or.inl (by rw [y]; unfold ptg; omega)))
  · exact Or.inr (Or.inr (Or.inl (by rw [y]; unfold ptg; omega)))
  · exact Or.inr (Or.inr (Or.inl (by rw [y]; unfold ptg; omega)))
  · exact Or.inr (Or.inr (Or.inl (by rw [y]; unfold ptg; omega)))
theorem IArr.fr {T : List Nat} {w' : CW} {a n : Nat} (h : IArr p w a n) (W : WF p w) (hF : Fr T w w') (hT : a ∉ T) : IArr p w' a n ∧ ∀ i, aI w' a i = aI w a i := by
  have o := hF.2.2.2.2 a (W.le (by rw [h.1]; decide)) hT
  exact ⟨⟨by rw [ob.etg o]; exact h.1, by rw [ob.eln o]; exact h.2.1, h.2.2⟩, fun i => ob.eaI o i⟩
theorem GdR.fr {T : List Nat} {w' : CW} {τ' : TW} {g R : Nat} {B B' : Nat → Prop} (h : GdR B p w τ g R) (W : WF p w) (hF : Fr T w w') (hT : g ∉ T ∧ fR w 78 g ∉ T ∧ fR w 77 g ∉ T ∧ fR w 76 g ∉ T) (hB : ∀ n, n < 8 → B n → B' n) (h50 : ∀ n : Nat, n < 4 → tA τ' 50 (4 * R + n : Nat) = tA τ 50 (4 * R + n : Nat) ∧ tA τ' 51 (4 * R + n : Nat) = tA τ 51 (4 * R + n : Nat)) (h52 : ∀ n : Nat, n < 2 → tA τ' 52 (2 * R + n : Nat) = tA τ 52 (2 * R + n : Nat)) (h53 : tA τ' 53 R = tA τ 53 R) : GdR B' p w' τ' g R := by
  obtain ⟨⟨g1, g2, g3, g4, g5, g6, g7, g8⟩, a1, a2, a3, a4, a5, a6⟩ := h
  have og := hF.2.2.2.2 g (W.le (by rw [g1]; decide)) hT.1
  have o78 := g3.fr W hF hT.2.1
  have o77 := g4.fr W hF hT.2.2.1
  have o76 := g5.fr W hF hT.2.2.2
  have e78 := ob.efR og 78
  have e77 := ob.efR og 77
  have e76 := ob.efR og 76
  have z0 : tA τ' 50 (4 * R : Nat) = tA τ 50 (4 * R : Nat) := (h50 0 (by decide)).1
  have z2 : tA τ' 50 (4 * R + 2 : Nat) = tA τ 50 (4 * R + 2 : Nat) := (h50 2 (by decide)).1
  refine ⟨⟨by rw [ob.etg og]; exact g1, g2, by rw [e78]; exact o78.1, by rw [e77]; exact o77.1, by rw [e76]; exact o76.1, by rw [e77, e78]; exact g6, by rw [e76, e78]; exact g7, by rw [e76, e77]; exact g8⟩, fun i hi => ?_, by rw [z0]; exact a2, by rw [z2]; exact a3, fun i hi => ?_, by rw [h53, ob.efI og]; exact a5, by rw [h53]; exact a6⟩
  · have q := (a1 i hi).keep (w' := w') (τ' := τ') (h50 i hi).1 (h50 i hi).2 (by rw [e78]; exact o78.2 _) (by rw [e77]; exact o77.2 _)
    rcases q with ⟨q1, n, ⟨q2, q3⟩, q4⟩ | q
    · exact Or.inl ⟨q1, n, ⟨q2, hB n q2 q3⟩, q4⟩
    · exact Or.inr q
  · rw [e76, o76.2, h52 i hi, (h50 (2 * i + 1) (by omega)).1]
    exact a4 i hi
theorem GdR.no {T : List Nat} {g R : Nat} {B : Nat → Prop} (h : GdR B p w τ g R) (W : WF p w) (hT : TkF p w T) : g ∉ T ∧ fR w 78 g ∉ T ∧ fR w 77 g ∉ T ∧ fR w 76 g ∉ T := by
  obtain ⟨⟨g1, g2, g3, g4, g5, g6, g7, g8⟩, -⟩ := h
  exact ⟨hT.no W g2 (by rw [g1]; decide), hT.no W g3.2.2 (by rw [g3.1]; decide), hT.no W g4.2.2 (by rw [g4.1]; decide), hT.no W g5.2.2 (by rw [g5.1]; decide)⟩
theorem AnR.fr {T : List Nat} {b' : Nat} {w' : CW} {τ' : TW} {x R : Nat} {B B' : Nat → Prop} {Sn Sn' : Nat → Int} (h : AnR B Sn p b w τ x R) (W : WF p w) (hF : Fr T w w') (hx : x ∉ T) (tx : tg w x ≠ 0) (hA : ∀ a, p + 8 < a → b < a → tg w a = 102 → a ∉ T) (hb : b' ≤ b) (hB : ∀ n, n < 8 → B n → B' n ∧ Sn' n = Sn n) (h54 : ∀ f, f = 54 ∨ f = 55 ∨ f = 56 ∨ f = 57 ∨ f = 58 → tA τ' f R = tA τ f R) (h59 : ∀ n : Nat, n < 3 → tA τ' 59 (3 * R + n : Nat) = tA τ 59 (3 * R + n : Nat) ∧ tA τ' 60 (3 * R + n : Nat) = tA τ 60 (3 * R + n : Nat)) : AnR B' Sn' p b' w' τ' x R := by
  have ox := hF.2.2.2.2 x (W.le tx) hx
  have i := ob.efI ox
  have r := ob.efR ox
  unfold AnR
  rw [h54 54 (by decide), h54 55 (by decide), h54 56 (by decide), h54 57 (by decide), h54 58 (by decide), i, i, i, i, r, r]
  rcases h with h | ⟨h1, h2, n, h3, h4, h5, h6⟩ | ⟨h1, h2, h3, m, A, C, h4, h5, h6, h7, h8, h9, h10, h11, h12, h13⟩
  · exact Or.inl h
  · exact Or.inr (Or.inl ⟨h1, h2, n, h3, (hB n h3 h4).1, by rw [(hB n h3 h4).2]; exact h5, h6⟩)
  · have oA := h9.fr W hF (hA A h9.2.2 h11 h9.1)
    have oC := h10.fr W hF (hA C h10.2.2 h12 h10.1)
    refine Or.inr (Or.inr ⟨h1, h2, h3, m, A, C, h4, h5, h6, h7, h8, oA.1, oC.1, Nat.lt_of_le_of_lt hb h11, Nat.lt_of_le_of_lt hb h12, fun j hj => ?_⟩)
    obtain ⟨k, k1, k2, k3, k4⟩ := h13 j hj
    refine ⟨k, by rw [oA.2]; exact k1, k2, (hB k k2 k3).1, fun q => ?_⟩
    rw [(h59 j q).1, (h59 j q).2, oC.2]
    exact k4 q
/-- the reference's rows of the i-th rule of f stay -/
def URk (τ τ' : TW) (f i : Nat) : Prop := np τ ≤ np τ' ∧ (∀ g, 17 ≤ g → g ≤ 26 → ∀ x : Nat, x < np τ → tA τ' g x = tA τ g x) ∧ (∀ g, g = 28 ∨ g = 47 ∨ g = 48 ∨ g = 49 ∨ g = 53 ∨ g = 54 ∨ g = 55 ∨ g = 56 ∨ g = 57 ∨ g = 58 → tA τ' g (16 * f + i : Nat) = tA τ g (16 * f + i : Nat)) ∧ (∀ n : Nat, n < 8 → tA τ' 30 (8 * (16 * f + i) + n : Nat) = tA τ 30 (8 * (16 * f + i) + n : Nat)) ∧
  (∀ n : Nat, n < 4 → tA τ' 50 (4 * (16 * f + i) + n : Nat) = tA τ 50 (4 * (16 * f + i) + n : Nat) ∧ tA τ' 51 (4 * (16 * f + i) + n : Nat) = tA τ 51 (4 * (16 * f + i) + n : Nat)) ∧ (∀ n : Nat, n < 2 → tA τ' 52 (2 * (16 * f + i) + n : Nat) = tA τ 52 (2 * (16 * f + i) + n : Nat)) ∧ (∀ n : Nat, n < 3 → tA τ' 59 (3 * (16 * f + i) + n : Nat) = tA τ 59 (3 * (16 * f + i) + n : Nat) ∧ tA τ' 60 (3 * (16 * f + i) + n : Nat) = tA τ 60 (3 * (16 * f + i) + n : Nat)) ∧
  tA τ' 43 f = tA τ 43 f ∧ ∀ j : Nat, j < 3 → tA τ' 44 (3 * f + j : Nat) = tA τ 44 (3 * f + j : Nat)
theorem URk.ft {S : List Nat} {τ' : TW} (F : FT S τ τ') (hS : ∀ f, f ∈ S → f < 16 ∨ 60 < f) (f i : Nat) : URk τ τ' f i := by
  have g : ∀ h, 16 ≤ h → h ≤ 60 → ∀ x, tA τ' h x = tA τ h x := fun h h1 h2 => (F h (fun y => by have := hS h y; omega)).2
  have n : np τ' = np τ := np_ft F (fun y => by have := hS _ y; omega)
  exact ⟨by omega, fun h h1 h2 x _ => g h (by omega) (by omega) _, fun h hh => g h (by omega) (by omega) _, fun x _ => g 30 (by decide) (by decide) _, fun x _ => ⟨g 50 (by decide) (by decide) _, g 51 (by decide) (by decide) _⟩, fun x _ => g 52 (by decide) (by decide) _, fun x _ => ⟨g 59 (by decide) (by decide) _, g 60 (by decide) (by decide) _⟩, g 43 (by decide) (by decide) _, fun x _ => g 44 (by decide) (by decide) _⟩
theorem URk.trans {τ1 τ2 : TW} {f i : Nat} (h : URk τ τ1 f i) (k : URk τ1 τ2 f i) : URk τ τ2 f i := by
  obtain ⟨a1, a2, a3, a4, a5, a6, a7, a8, a9⟩ := h
  obtain ⟨b1, b2, b3, b4, b5, b6, b7, b8, b9⟩ := k
  exact ⟨Nat.le_trans a1 b1, fun h h1 h2 x hx => (b2 h h1 h2 x (by omega)).trans (a2 h h1 h2 x hx), fun h hh => (b3 h hh).trans (a3 h hh), fun x hx => (b4 x hx).trans (a4 x hx), fun x hx => ⟨(b5 x hx).1.trans (a5 x hx).1, (b5 x hx).2.trans (a5 x hx).2⟩, fun x hx => (b6 x hx).trans (a6 x hx), fun x hx => ⟨(b7 x hx).1.trans (a7 x hx).1, (b7 x hx).2.trans (a7 x hx).2⟩, b8.trans a8, fun x hx => (b9 x hx).trans (a9 x hx)⟩
/-- kinds stay -/
def KdK (p : Nat) (w w' : CW) (τ τ' : TW) : Prop := nK τ ≤ nK τ' ∧ ∀ k, k < nK τ → kd w' p k = kd w p k ∧ tA τ' 14 k = tA τ 14 k ∧ ∀ i : Nat, (i : Int) < tA τ 14 k → tA τ' 15 (4 * k + i : Nat) = tA τ 15 (4 * k + i : Nat)
theorem RuR.fr {T : List Nat} {w' : CW} {τ' : TW} {f i x lo hi : Nat} (h : RuR p w τ f i x lo hi) (W : WF p w) (hF : Fr T w w') (hT : TkF p w T) (hk : KdK p w w' τ τ') (hU : URk τ τ' f i) : RuR p w' τ' f i x lo hi := by
  obtain ⟨⟨a1, a2, a3, a4⟩, kn, ⟨b1, b2, b3, b4⟩, ⟨m, N, c, Di, ⟨c1, c2, c3, c4, c5, c6⟩, ⟨d1, d2, d3, d4, d5⟩, e1, e2, e3⟩, g1, g2⟩ := h
  obtain ⟨u1, u2, u3, u4, u5, u6, u7, u8, u9⟩ := hU
  have ox := hF.2.2.2.2 x (W.le (by rw [a1]; decide)) (hT.no W a2 (by rw [a1]; decide))
  have o67 := b3.fr W hF (hT.no W b3.2.2 (by rw [b3.1]; decide))
  have oA := hF.2.2.2.2 (fR w 58 x) (W.le (by rw [c4.1]; decide)) (hT.no W c4.2.2 (by rw [c4.1]; decide))
  have eS : ∀ n, n < 8 → SnT τ' (16 * f + i) n = SnT τ (16 * f + i) n := fun n hn => u4 n hn
  have e58 := ob.efR ox 58
  have e67 := ob.efR ox 67
  have e59 := ob.efR ox 59
  refine ⟨⟨by rw [ob.etg ox]; exact a1, a2, by rw [ob.efI ox]; exact a3, by rw [ob.efI ox, u3 48 (by decide)]; exact a4⟩, kn, ⟨by rw [u3 28 (by decide)]; exact b1, b2, by rw [e67]; exact o67.1, fun n hn => by rw [e67, o67.2, eS n (by omega)]; exact b4 n hn⟩, ⟨m, N, c, Di, ⟨by rw [u8]; exact c1, c2, c3, by rw [e58]; exact ⟨by rw [ob.etg oA]; exact c4.1, by rw [ob.eln oA]; exact c4.2.1, c4.2.2⟩, by omega, by rw [u3 47 (by decide)]; exact c6⟩, ⟨fun j hj => ?_, ?_, d3, d4, fun j hj => ?_⟩, fun j hj => ?_, ?_, e3⟩, ?_, ?_⟩
  · rw [u2 23 (by decide) (by decide) _ (by have := d3 j (by omega); omega)]; exact d1 j hj
  · rw [u2 23 (by decide) (by decide) _ (by have := d3 (m - 1) (by omega); omega)]; exact d2
  · have hle := nxt_le d3 hj
    rw [e58, ob.eaR oA]
    refine PRel.fr W hF (Nat.le_refl _) hk 7 _ _ _ _ (hT.tok (Nat.le_refl _)) (fun g hg y q1 q2 => ?_) (fun y q1 q2 => u2 23 (by decide) (by decide) y (by omega)) (fun n hn => ?_) (d5 j hj)
    · simp only [List.mem_cons, List.not_mem_nil, or_false] at hg
      exact u2 g (by omega) (by omega) y (by omega)
    · exact eS n (by have := (e3 n).mpr ⟨j, hj, hn⟩; omega)
  · rw [u2 18 (by decide) (by decide) _ (by have := d3 j (by omega); omega), u9 j (by omega)]; exact e1 j hj
  · rw [u3 49 (by decide), e2]
    exact (prF_eq m (fun j hj => ⟨rfl, u2 26 (by decide) (by decide) _ (by have := d3 j (by omega); omega)⟩)).symm
  · rw [u3 53 (by decide), e59]
    rcases g1 with g1 | g1
    · exact Or.inl g1
    · exact Or.inr (g1.fr W hF (g1.no W hT) (fun n hn hB => ⟨hB.1, by rw [eS n hn]; exact hB.2⟩) u5 u6 (u3 53 (by decide)))
  · exact g2.fr W hF (hT.no W a2 (by rw [a1]; decide)) (by rw [a1]; decide) (fun a h1 h2 h3 => hT.no W h1 (by rw [h3]; decide)) (Nat.le_refl _) (fun n hn hB => ⟨hB, eS n hn⟩) (fun g hg => u3 g (by omega)) u7
theorem RuR.up {f i x lo hi hi' : Nat} (h : RuR p w τ f i x lo hi) (h1 : hi ≤ hi') (h2 : hi' ≤ np τ) : RuR p w τ f i x lo hi' := by
  obtain ⟨a, kn, b, ⟨m, N, c, Di, ⟨c1, c2, c3, c4, c5, c6⟩, d⟩, g⟩ := h
  exact ⟨a, kn, b, ⟨m, N, c, Di, ⟨c1, c2, c3, c4, ⟨c5.1, by omega, h2⟩, c6⟩, d⟩, g⟩
end ZRule1
