/-! alike: the reference's half; both -/
section ZLike2
variable {p b e d : Nat} {w : CW} {τ : TW}
def sm (g : Nat → Int) : Nat → Int
  | 0 => 0
  | n + 1 => sm g n + g n
theorem sm_c {g g' : Nat → Int} : ∀ n, (∀ i, i < n → g i = g' i) → sm g n = sm g' n := by
  intro n
  induction n with
  | zero => intro _; rfl
  | succ n ih =>
    intro h
    unfold sm
    rw [ih (fun i hi => h i (by omega)), h n (by omega)]
theorem sm_add (g : Nat → Int) (n : Nat) : ∀ m, sm g (n + m) = sm g n + sm (fun i => g (n + i)) m := by
  intro m
  induction m with
  | zero => show sm g n = sm g n + 0; omega
  | succ m ih =>
    show sm g (n + m) + g (n + m) = sm g n + (sm (fun i => g (n + i)) m + g (n + m))
    omega
theorem sm_ge {g : Nat → Int} : ∀ n, (∀ i, i < n → 1 ≤ g i) → (n : Int) ≤ sm g n := by
  intro n
  induction n with
  | zero => intro _; exact Int.le_refl 0
  | succ n ih =>
    intro h
    have := ih (fun i hi => h i (by omega))
    have := h n (by omega)
    unfold sm
    omega
/-- pairs of parts, laid upon the others -/
def psh (τ : TW) (N x y : Nat) : Nat → TW
  | 0 => τ
  | j + 1 => sA (sA (psh τ N x y j) 115 (N + j : Nat) (tA τ 114 (4 * x + j : Nat))) 116 (N + j : Nat) (tA τ 114 (4 * y + j : Nat))
theorem psh_ft (N x y : Nat) : ∀ j, FT [115, 116] τ (psh τ N x y j) := by
  intro j
  induction j with
  | zero => exact FT.refl _ _
  | succ j ih => exact (ih.ssA (by decide)).ssA (by decide)
theorem psh_at (N x y : Nat) : ∀ (m i : Nat), tA (psh τ N x y m) 115 i = (if N ≤ i ∧ i < N + m then tA τ 114 (4 * x + (i - N) : Nat) else tA τ 115 i) ∧ tA (psh τ N x y m) 116 i = (if N ≤ i ∧ i < N + m then tA τ 114 (4 * y + (i - N) : Nat) else tA τ 116 i) := by
  intro m
  induction m with
  | zero => intro i; rw [if_neg (by omega), if_neg (by omega)]; exact ⟨rfl, rfl⟩
  | succ m ih =>
    intro i
    have h1 : tA (psh τ N x y (m + 1)) 115 i = if i = N + m then tA τ 114 (4 * x + m : Nat) else tA (psh τ N x y m) 115 i := by
      simp only [psh, tA_sA]
      rw [if_neg (by omega)]
      by_cases z : i = N + m
      · rw [if_pos ⟨trivial, by omega⟩, if_pos z]
      · rw [if_neg (fun q => z (by have := q.2; omega)), if_neg z]
    have h2 : tA (psh τ N x y (m + 1)) 116 i = if i = N + m then tA τ 114 (4 * y + m : Nat) else tA (psh τ N x y m) 116 i := by
      simp only [psh, tA_sA]
      by_cases z : i = N + m
      · rw [if_pos ⟨trivial, by omega⟩, if_pos z]
      · rw [if_neg (fun q => z (by have := q.2; omega)), if_neg (by omega), if_neg z]
    rw [h1, h2, (ih i).1, (ih i).2]
    by_cases z : i = N + m
    · rw [if_pos z, if_pos z, if_pos (by omega), if_pos (by omega), show i - N = m by omega]
      exact ⟨rfl, rfl⟩
    · rw [if_neg z, if_neg z]
      by_cases y : N ≤ i ∧ i < N + m
      · rw [if_pos y, if_pos y, if_pos (by omega), if_pos (by omega)]
        exact ⟨rfl, rfl⟩
      · rw [if_neg y, if_neg y, if_neg (by omega), if_neg (by omega)]
        exact ⟨rfl, rfl⟩
/-- the pairs that are ahead -/
def PAI (τ τ' : TW) (n : Nat) : Prop := FT [115, 116] τ τ' ∧ ∀ i : Nat, i < n → ∃ a b : Nat, tA τ' 115 i = a ∧ tA τ' 116 i = b ∧ a < nV τ ∧ b < nV τ
def ALK (τ τ' : TW) (n : Nat) : Prop := ∀ i : Nat, i < n → LW τ (tA τ' 115 i).toNat (tA τ' 116 i).toNat
theorem sT_alike {x1 x2 : Int} (hV : VAL p w τ) (hT : VT τ) (hK24 : nK τ ≤ 24) {Q : Int → TW → Prop} (hb : ¬ ((0 ≤ x1 ∧ x1 < tI τ 109) ∧ 0 ≤ x2 ∧ x2 < tI τ 109) → Q (-1) τ) (hg : ∀ a b : Nat, x1 = a → x2 = b → a < nV τ → b < nV τ → ∀ τ', FT [115, 116] τ τ' → Q (lkI τ a b) τ') : wpT (d + 3) 87 [ai x1, ai x2] τ (zqI Q zno) := by
  have b2 := hV.2.2.1
  have b3 := hV.2.2.2.1
  have fv : ∀ x, ff_isValue x τ = if ¬ (x < 0) ∧ ¬ (w32 (tI τ 109 - 1) < x) then 1 else 0 := fun _ => rfl
  rw [w32_s (by omega) (by omega)] at fv
  have f0 : ∀ x, ff_isValue x τ = 0 ↔ ¬ (0 ≤ x ∧ x < tI τ 109) := fun x => by
    rw [fv]
    by_cases z : ¬ (x < 0) ∧ ¬ (tI τ 109 - 1 < x)
    · rw [if_pos z]
      exact ⟨fun q => absurd q (by decide), fun q => absurd (show 0 ≤ x ∧ x < tI τ 109 by omega) q⟩
    · rw [if_neg z]
      exact ⟨fun _ => by omega, fun _ => rfl⟩
  refine wT_alike (by omega) (bT_alike_0 ?_)
  by_cases z : (0 ≤ x1 ∧ x1 < tI τ 109) ∧ 0 ≤ x2 ∧ x2 < tI τ 109
  · refine br0 (fun q => by
      rcases q with q | q
      · exact (f0 _).mp q z.1
      · exact (f0 _).mp q z.2) (fa (fa ?_))
    obtain ⟨a, ha⟩ : ∃ a : Nat, x1 = a := ⟨x1.toNat, by omega⟩
    obtain ⟨b, hb2⟩ : ∃ b : Nat, x2 = b := ⟨x2.toNat, by omega⟩
    subst ha; subst hb2
    have hav : a < nV τ := by unfold nV; omega
    have hbv : b < nV τ := by unfold nV; omega
    have n160 : nV τ ≤ 160 := by unfold nV; omega
    have h := hg a b rfl rfl hav hbv
    refine bT_alike_34 ?_
    intro I hI
    have key : ∀ M n : Nat, ∀ τ', PAI τ τ' n → sm (fun i => tA τ 113 (tA τ' 115 (i : Nat))) n ≤ M → M ≤ 60 → (ALK τ τ' n ↔ LW τ a b) → I (n : Int) τ' := by
      intro M
      induction M with
      | zero =>
        intro n τ' hP hs _ hA
        have := sm_ge (g := fun i => tA τ 113 (tA τ' 115 (i : Nat))) n (fun i hi => by
          obtain ⟨x, y, e1, e2, e3, e4⟩ := hP.2 i hi
          show 1 ≤ tA τ 113 (tA τ' 115 i)
          rw [e1]
          exact (hV.2.2.2.2 x e3).1.2.2.2.1)
        have n0 : n = 0 := by omega
        subst n0
        refine hI _ _ (br1 (by decide) (bT_alike_207 (call := wpT (d + 2)) ?_))
        rw [lkI_1 (hA.mp (fun i hi => by omega))] at h
        exact h τ' hP.1
      | succ M ih =>
        intro n τ' hP hs hM hA
        cases n with
        | zero =>
          refine hI _ _ (br1 (by decide) (bT_alike_207 (call := wpT (d + 2)) ?_))
          rw [lkI_1 (hA.mp (fun i hi => by omega))] at h
          exact h τ' hP.1
        | succ N =>
          have ge := sm_ge (g := fun i => tA τ 113 (tA τ' 115 (i : Nat))) (N + 1) (fun i hi => by
            obtain ⟨x, y, e1, e2, e3, e4⟩ := hP.2 i hi
            show 1 ≤ tA τ 113 (tA τ' 115 i)
            rw [e1]
            exact (hV.2.2.2.2 x e3).1.2.2.2.1)
          obtain ⟨x, y, e1, e2, e3, e4⟩ := hP.2 N (by omega)
          have eN : w32 (((N + 1 : Nat) : Int) + (-1)) = (N : Int) := by rw [w32_s (by omega) (by omega)]; omega
          have t : ∀ f i, f ≠ 115 → f ≠ 116 → tA τ' f i = tA τ f i := fun f i h1 h2 => (hP.1 f (by simp; omega)).2 i
          refine hI _ _ (br0 (by omega) (fa ?_))
          rw [eN]
          refine ⟨⟨by omega, by omega⟩, ?_⟩
          rw [e1, e2]
          refine fa ⟨⟨by omega, by omega⟩, fa ?_⟩
          rw [t 110 _ (by decide) (by decide), t 110 _ (by decide) (by decide), t 111 _ (by decide) (by decide), t 111 _ (by decide) (by decide), t 112 _ (by decide) (by decide), t 112 _ (by decide) (by decide), t 113 _ (by decide) (by decide), t 113 _ (by decide) (by decide)]
          refine ⟨⟨by omega, by omega⟩, ⟨by omega, by omega⟩, fun _ => ⟨⟨by omega, by omega⟩, ⟨by omega, by omega⟩, fun _ => ⟨⟨by omega, by omega⟩, ⟨by omega, by omega⟩, fun _ => ⟨⟨by omega, by omega⟩, by omega, by omega⟩⟩⟩, ?_⟩
          have iff := LW_iff hT (b := y) e3
          have hall : ALK τ τ' (N + 1) ↔ (ALK τ τ' N ∧ LW τ x y) := by
            constructor
            · intro q
              refine ⟨fun i hi => q i (by omega), ?_⟩
              have := q N (by omega)
              rw [e1, e2, Int.toNat_natCast, Int.toNat_natCast] at this
              exact this
            · intro q i hi
              rcases Nat.lt_or_ge i N with u | u
              · exact q.1 i u
              · rw [show i = N by omega, e1, e2, Int.toNat_natCast, Int.toNat_natCast]
                exact q.2
          by_cases r : LR τ x y
          · refine br0 (fun q => by
              obtain ⟨r1, r2, r3, r4⟩ := r
              rcases q with q | q | q | q
              · exact q r1
              · exact q r2
              · exact q r3
              · exact q r4) (bT_alike_131 ?_)
            intro J hJ
            obtain ⟨m, hm, hm4, hpt⟩ : ∃ m : Nat, (∀ j : Nat, (tA τ 110 x = 4 ∧ ¬ (tA τ 14 (tA τ 111 x) ≤ (j : Int))) ↔ j < m) ∧ m ≤ 4 ∧ (tA τ 113 x = 1 + sm (fun j => tA τ 113 (tA τ 114 (4 * x + j : Nat))) m ∧ (0 < m → tA τ 110 x = 4) ∧ (tA τ 110 x = 4 → tA τ 14 (tA τ 111 x) = m ∧ ∃ k : Nat, tA τ 111 x = k ∧ k < nK τ ∧ k < 24) ∧ ∀ j, j < m → ∃ u v : Nat, u < x ∧ v < y ∧ tA τ 114 (4 * x + j : Nat) = u ∧ tA τ 114 (4 * y + j : Nat) = v) := by
              by_cases h4 : tA τ 110 x = 4
              · obtain ⟨k, m, a1, a2, a3, a4, a5, a6⟩ := hT x e3 h4
                obtain ⟨k', m', b1, b2, b3, b4, b5, b6⟩ := hT y e4 (r.1.symm.trans h4)
                have ek : k' = k := by have := r.2.1; omega
                subst ek
                have em : m' = m := by omega
                subst em
                refine ⟨m', fun j => ?_, a4, ?_, fun _ => h4, fun _ => ⟨by rw [a1, a3], k', a1, a2, ?_⟩, fun j hj => ?_⟩
                · rw [a1, a3]
                  exact ⟨fun q => by have := q.2; omega, fun q => ⟨h4, by omega⟩⟩
                · rw [a5]
                  have : ∀ i, mkZ τ (fun j => tA τ 114 (4 * x + j : Nat)) i = 1 + sm (fun j => tA τ 113 (tA τ 114 (4 * x + j : Nat))) i := by
                    intro i
                    induction i with
                    | zero => rfl
                    | succ i ihi => unfold mkZ sm; omega
                  exact this m'
                · omega
                · obtain ⟨u, u1, u2, -⟩ := a6 j hj
                  obtain ⟨v, v1, v2, -⟩ := b6 j hj
                  exact ⟨u, v, u1, v1, u2, v2⟩
              · refine ⟨0, fun j => ⟨fun q => absurd q.1 h4, fun q => by omega⟩, by omega, ?_, fun q => by omega, fun q => absurd q h4, fun j hj => by omega⟩
                rcases (hV.2.2.2.2 x e3).2 with y | y | y | y | y
                · exact y.2.2.2.2
                · exact y.2.2.2.2.2
                · exact y.2.2.2.2
                · exact y.2.2.2.2
                · exact absurd y.1 h4
            have hpt1 := hpt.1
            have done : I ((N + m : Nat) : Int) (psh τ' N x y m) := by
              have F := psh_ft (τ := τ') N x y m
              have A := psh_at (τ := τ') N x y m
              have ex : ∀ i, N ≤ i → i < N + m → tA (psh τ' N x y m) 115 (i : Nat) = tA τ 114 (4 * x + (i - N) : Nat) ∧ tA (psh τ' N x y m) 116 (i : Nat) = tA τ 114 (4 * y + (i - N) : Nat) := fun i h1 h2 => by
                rw [(A i).1, (A i).2, if_pos ⟨h1, h2⟩, if_pos ⟨h1, h2⟩]
                exact ⟨t 114 _ (by decide) (by decide), t 114 _ (by decide) (by decide)⟩
              have eo : ∀ i, i < N → tA (psh τ' N x y m) 115 (i : Nat) = tA τ' 115 i ∧ tA (psh τ' N x y m) 116 (i : Nat) = tA τ' 116 i := fun i h1 => by
                rw [(A i).1, (A i).2, if_neg (by omega), if_neg (by omega)]
                exact ⟨rfl, rfl⟩
              refine ih (N + m) _ ⟨hP.1.trans F, fun i hi => ?_⟩ ?_ (by omega) (Iff.trans ?_ hA)
              · rcases Nat.lt_or_ge i N with u | u
                · rw [(eo i u).1, (eo i u).2]
                  exact hP.2 i (by omega)
                · rw [(ex i u hi).1, (ex i u hi).2]
                  obtain ⟨c, d, d1, d2, d3, d4⟩ := hpt.2.2.2 (i - N) (by omega)
                  exact ⟨c, d, d3, d4, by omega, by omega⟩
              · rw [sm_add]
                have s1 : sm (fun i => tA τ 113 (tA (psh τ' N x y m) 115 (i : Nat))) N = sm (fun i => tA τ 113 (tA τ' 115 (i : Nat))) N := sm_c N (fun i hi => by
                  show tA τ 113 (tA (psh τ' N x y m) 115 (i : Nat)) = tA τ 113 (tA τ' 115 (i : Nat))
                  rw [(eo i hi).1])
                have s2 : sm (fun i => tA τ 113 (tA (psh τ' N x y m) 115 ((N + i : Nat) : Int))) m = sm (fun j => tA τ 113 (tA τ 114 (4 * x + j : Nat))) m := sm_c m (fun i hi => by
                  show tA τ 113 (tA (psh τ' N x y m) 115 ((N + i : Nat) : Int)) = _
                  rw [(ex (N + i) (by omega) (by omega)).1, show N + i - N = i by omega])
                rw [s1, s2]
                have hs' : sm (fun i => tA τ 113 (tA τ' 115 (i : Nat))) N + tA τ 113 (tA τ' 115 (N : Nat)) ≤ ((M + 1 : Nat) : Int) := hs
                rw [e1, hpt1] at hs'
                omega
              · rw [hall, iff]
                constructor
                · intro q
                  refine ⟨fun i hi => ?_, r, fun h4 j hj => ?_⟩
                  · have := q i (by omega)
                    rw [(eo i hi).1, (eo i hi).2] at this
                    exact this
                  · rw [(hpt.2.2.1 h4).1] at hj
                    have := q (N + j) (by omega)
                    rw [(ex (N + j) (by omega) (by omega)).1, (ex (N + j) (by omega) (by omega)).2, show N + j - N = j by omega] at this
                    exact this
                · intro q i hi
                  rcases Nat.lt_or_ge i N with u | u
                  · rw [(eo i u).1, (eo i u).2]
                    exact q.1 i u
                  · rw [(ex i u hi).1, (ex i u hi).2]
                    have h4 := hpt.2.1 (by omega)
                    exact q.2.2 h4 (i - N) (by rw [(hpt.2.2.1 h4).1]; omega)
            have loop : ∀ n2 j : Nat, j + n2 = m → J ((N + j : Nat) : Int) (j : Int) (psh τ' N x y j) := by
              intro n2
              induction n2 with
              | zero =>
                intro j hj
                have : j = m := by omega
                subst this
                have F := hP.1.trans (psh_ft (τ := τ') N x y j)
                have tt : ∀ f i, f ≠ 115 → f ≠ 116 → tA (psh τ' N x y j) f i = tA τ f i := fun f i h1 h2 => (F f (by simp; omega)).2 i
                refine hJ _ _ _ ?_
                rw [tt 110 _ (by decide) (by decide), tt 111 _ (by decide) (by decide), tt 14 _ (by decide) (by decide)]
                refine ⟨⟨by omega, by omega⟩, fun h4 => ⟨⟨by omega, by omega⟩, ?_⟩, br0 (fun q => absurd ((hm j).mp q) (by omega)) (bT_alike_204 done)⟩
                obtain ⟨-, k, k1, k2, k3⟩ := hpt.2.2.1 h4
                omega
              | succ n2 ih2 =>
                intro j hj
                have F := hP.1.trans (psh_ft (τ := τ') N x y j)
                have tt : ∀ f i, f ≠ 115 → f ≠ 116 → tA (psh τ' N x y j) f i = tA τ f i := fun f i h1 h2 => (F f (by simp; omega)).2 i
                have h4 := hpt.2.1 (by omega)
                obtain ⟨-, k, k1, k2, k3⟩ := hpt.2.2.1 h4
                have i1 : w32 (w32 (4 * (x : Int)) + (j : Int)) = ((4 * x + j : Nat) : Int) := jx 4 x j (by omega) (by decide)
                have i2 : w32 (w32 (4 * (y : Int)) + (j : Int)) = ((4 * y + j : Nat) : Int) := jx 4 y j (by omega) (by decide)
                refine hJ _ _ _ ?_
                rw [tt 110 _ (by decide) (by decide), tt 111 _ (by decide) (by decide), tt 14 _ (by decide) (by decide), i1, i2]
                refine ⟨⟨by omega, by omega⟩, fun h4 => ⟨⟨by omega, by omega⟩, by omega⟩, br1 ((hm j).mpr (by omega)) ⟨⟨by omega, by omega⟩, ⟨by omega, by omega⟩, fa ⟨⟨by omega, by omega⟩, ⟨by omega, by omega⟩, fa (fa (fa ?_))⟩⟩⟩
                rw [w32_s (a := ((N + j : Nat) : Int) + 1) (by omega) (by omega), w32_s (a := (j : Int) + 1) (by omega) (by omega)]
                have g := ih2 (j + 1) (by omega)
                have ep : psh τ' N x y (j + 1) = sA (sA (psh τ' N x y j) 115 ((N + j : Nat) : Int) (tA (psh τ' N x y j) 114 ((4 * x + j : Nat) : Int))) 116 ((N + j : Nat) : Int) (tA (sA (psh τ' N x y j) 115 ((N + j : Nat) : Int) (tA (psh τ' N x y j) 114 ((4 * x + j : Nat) : Int))) 114 ((4 * y + j : Nat) : Int)) := by
                  have a1 : ∀ i, tA (psh τ' N x y j) 114 i = tA τ' 114 i := fun i => (psh_ft (τ := τ') N x y j 114 (by decide)).2 i
                  have a2 : ∀ u v i, tA (sA (psh τ' N x y j) 115 u v) 114 i = tA τ' 114 i := fun u v i => a1 i
                  rw [a2, a1]
                  rfl
                rw [ep] at g
                exact g
            have := loop m 0 (by omega)
            exact this
          · refine br1 ?_ (bT_alike_126 (call := wpT (d + 2)) ?_)
            · by_cases r1 : tA τ 110 x = tA τ 110 y
              · by_cases r2 : tA τ 111 x = tA τ 111 y
                · by_cases r3 : tA τ 112 x = tA τ 112 y
                  · exact Or.inr (Or.inr (Or.inr (fun r4 => r ⟨r1, r2, r3, r4⟩)))
                  · exact Or.inr (Or.inr (Or.inl r3))
                · exact Or.inr (Or.inl r2)
              · exact Or.inl r1
            · rw [lkI_0 (fun q => r (iff.mp ((hall.mp (hA.mpr q)).2)).1)] at h
              exact h τ' hP.1
    have := key 60 1 (sA (sA τ 115 0 a) 116 0 b) ⟨((FT.refl _ τ).ssA (by decide)).ssA (by decide), fun i hi => ?_⟩ ?_ (by omega) ?_
    · exact this
    · have : i = 0 := by omega
      subst this
      exact ⟨a, b, rfl, rfl, hav, hbv⟩
    · show 0 + tA τ 113 (a : Int) ≤ 60
      have := (hV.2.2.2.2 a hav).1.2.2.2.2
      omega
    · constructor
      · intro q
        exact q 0 (by omega)
      · intro q i hi
        have : i = 0 := by omega
        subst this
        exact q
  · refine br1 ?_ (bT_alike_16 (call := wpT (d + 2)) (hb z))
    by_cases z1 : 0 ≤ x1 ∧ x1 < tI τ 109
    · exact Or.inr ((f0 _).mpr (fun q => z ⟨z1, q⟩))
    · exact Or.inl ((f0 _).mpr z1)
theorem api_alike {x1 x2 : Int} (W : WF p w) (hV : VAL p w τ) (hT : VT τ) (hK : KR p w τ) {K : Int → Int → CW → TW → Prop} (h1 : ∀ v τ', FT [115, 116] τ τ' → K v v w τ') : wpC p (d + 165) 66 [ar p, ai x1, ai x2] w (zqI (fun v w' => wpT (e + 3) 87 [ai x1, ai x2] τ (zqI (fun v' τ' => K v v' w' τ') zno)) zno) := by
  have b2 := hV.2.2.1
  have b3 := hV.2.2.2.1
  obtain ⟨a1, a2, a3, a4⟩ := hV.1
  have k24 : nK τ ≤ 24 := by have := hK.2.2.2.1; unfold nK; omega
  have bad : ¬ ((0 ≤ x1 ∧ x1 < tI τ 109) ∧ 0 ≤ x2 ∧ x2 < tI τ 109) → wpT (e + 3) 87 [ai x1, ai x2] τ (zqI (fun v' τ' => K (-1) v' w τ') zno) := fun z => sT_alike (p := p) (w := w) hV hT k24 (fun _ => h1 _ _ (FT.refl _ _)) (fun a b e1 e2 h2 h3 => absurd ⟨⟨by omega, by unfold nV at h2; omega⟩, by omega, by unfold nV at h3; omega⟩ z)
  refine wC_X0_alike (d := d + 164) (Nat.zero_le _) (bC_X0_alike_0 (sC_isValue (d := d + 162) hV (fun a ea hav => ?_) (fun no => br1 rfl (bC_X0_alike_16 (bC_X0_alike_43 (call := wpC p (d + 164)) (bad (fun q => no q.1)))))))
  refine br0 (by decide) (sC_isValue (d := d + 162) hV (fun b eb hbv => ?_) (fun no => br1 rfl (bC_X0_alike_16 (bC_X0_alike_43 (call := wpC p (d + 164)) (bad (fun q => no q.2))))))
  subst ea; subst eb
  have av : (a : Int) < 160 := by unfold nV at hav; omega
  have bv : (b : Int) < 160 := by unfold nV at hbv; omega
  have ra : aR w (fR w 3 p) (a : Int) = vr w p a := rfl
  have rb : aR w (fR w 3 p) (b : Int) = vr w p b := rfl
  refine br0 (by decide) ⟨⟨by rw [a1]; decide, by omega, by rw [a2]; omega⟩, ⟨by rw [a1]; decide, by omega, by rw [a2]; omega⟩, ?_⟩
  rw [ra, rb]
  have ref : wpT (e + 3) 87 [ai a, ai b] τ (zqI (fun v' τ' => K (lkI τ a b) v' w τ') zno) := sT_alike (p := p) (w := w) hV hT k24 (fun no => absurd ⟨⟨by omega, by unfold nV at hav; omega⟩, by omega, by unfold nV at hbv; omega⟩ no) (fun a' b' e1 e2 h2 h3 τ' F => by
    have e1 : a' = a := by omega
    have e2 : b' = b := by omega
    subst e1; subst e2
    exact h1 _ _ F)
  have top := sC_like W hV hT hK (d := d) 160 a b (by omega) hav hbv (Q := zqI (fun v10 u9 => (v10 = 0 → pC_X0_alike_43 p (wpC p (d + 164)) (fun v w' => wpT (e + 3) 87 [ai a, ai b] τ (zqI (fun v' τ' => K v v' w' τ') zno)) 0 u9) ∧ (¬ (v10 = 0) → pC_X0_alike_43 p (wpC p (d + 164)) (fun v w' => wpT (e + 3) 87 [ai a, ai b] τ (zqI (fun v' τ' => K v v' w' τ') zno)) 1 u9)) zno) (by
    by_cases q : LW τ a b
    · rw [lkI_1 q] at ref ⊢
      exact br0 (by decide) (bC_X0_alike_43 ref)
    · rw [lkI_0 q] at ref ⊢
      exact br1 rfl (bC_X0_alike_43 ref))
  exact top
end ZLike2
