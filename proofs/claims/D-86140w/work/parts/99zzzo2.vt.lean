/-! values of kinds: their parts' sorts, their sizes -/
section ZVt
variable {p b e d : Nat} {w : CW} {τ : TW}
def ofS (τ : TW) (v : Nat) (s : Int) : Prop := (s < 3 ∧ tA τ 110 v = s) ∨ (3 ≤ s ∧ (tA τ 110 v = 3 ∨ (tA τ 110 v = 4 ∧ ofT τ (tA τ 111 v) (s - 3))))
/-- how large it comes to be -/
def mkZ (τ : TW) (g : Nat → Int) : Nat → Int
  | 0 => 1
  | j + 1 => mkZ τ g j + tA τ 113 (g j)
def VT1 (τ : TW) (v : Nat) : Prop := tA τ 110 v = 4 → ∃ k m : Nat, tA τ 111 v = k ∧ k < nK τ ∧ tA τ 14 k = m ∧ m ≤ 4 ∧ tA τ 113 v = mkZ τ (fun j => tA τ 114 (4 * v + j : Nat)) m ∧ ∀ j, j < m → ∃ u : Nat, u < v ∧ tA τ 114 (4 * v + j : Nat) = u ∧ ofS τ u (tA τ 15 (4 * k + j : Nat))
def VT (τ : TW) : Prop := ∀ v, v < nV τ → VT1 τ v
theorem mkZ_c {τ' : TW} {g g' : Nat → Int} : ∀ m, (∀ j, j < m → g' j = g j ∧ tA τ' 113 (g j) = tA τ 113 (g j)) → mkZ τ' g' m = mkZ τ g m := by
  intro m
  induction m with
  | zero => intro _; rfl
  | succ m ih =>
    intro h
    have := ih (fun j hj => h j (by omega))
    have q := h m (by omega)
    unfold mkZ
    rw [this, q.1, q.2]
theorem VT.keep {τ' : TW} (h : VT τ) (hrow : ∀ f (v : Nat), f = 110 ∨ f = 111 ∨ f = 113 → v < nV τ → tA τ' f v = tA τ f v) (h114 : ∀ i : Nat, i < 4 * nV τ → tA τ' 114 i = tA τ 114 i) (hk : nK τ ≤ nK τ' ∧ ∀ k : Nat, k < nK τ → tA τ' 14 k = tA τ 14 k ∧ (∀ j : Nat, j < 4 → tA τ' 15 (4 * k + j : Nat) = tA τ 15 (4 * k + j : Nat)) ∧ ∀ o, ofT τ k o → ofT τ' k o) {v : Nat} (hv : v < nV τ) : VT1 τ' v := by
  intro h4
  rw [hrow 110 v (by decide) hv] at h4
  obtain ⟨k, m, a1, a2, a3, a4, a5, a6⟩ := h v hv h4
  obtain ⟨b1, b2, b3⟩ := hk.2 k a2
  refine ⟨k, m, by rw [hrow 111 v (by decide) hv]; exact a1, by omega, by rw [b1]; exact a3, a4, ?_, fun j hj => ?_⟩
  · rw [hrow 113 v (by decide) hv, a5]
    refine (mkZ_c m (fun j hj => ⟨h114 _ (by omega), ?_⟩)).symm
    obtain ⟨u, u1, u2, -⟩ := a6 j hj
    rw [u2]
    exact hrow 113 u (by decide) (by omega)
  · obtain ⟨u, u1, u2, u3⟩ := a6 j hj
    refine ⟨u, u1, by rw [h114 _ (by omega)]; exact u2, ?_⟩
    rw [b2 j (by omega)]
    have e0 := hrow 110 u (by decide) (by omega)
    have e1 := hrow 111 u (by decide) (by omega)
    rcases u3 with q | ⟨q1, q2⟩
    · exact Or.inl ⟨q.1, e0.trans q.2⟩
    · refine Or.inr ⟨q1, ?_⟩
      rcases q2 with q | ⟨q3, q4⟩
      · exact Or.inl (e0.trans q)
      · obtain ⟨k2, m2, c1, c2, -⟩ := h u (by omega) q3
        refine Or.inr ⟨e0.trans q3, ?_⟩
        rw [e1, c1]
        rw [c1] at q4
        exact (hk.2 k2 c2).2.2 _ q4
theorem ofT_c {τ' : TW} (h : ∀ i, tA τ' 13 i = tA τ 13 i) {k o : Int} (q : ofT τ k o) : ofT τ' k o := by
  obtain ⟨n, hn⟩ := q
  refine ⟨n, ?_⟩
  rw [← hn]
  have : ∀ n k, upN τ' n k = upN τ n k := by
    intro n
    induction n with
    | zero => intro k; rfl
    | succ n ih => intro k; unfold upN; rw [h, ih]
  exact this n k
/-- a plain row more -/
theorem VT.nv {k n t : Int} (h : VT τ) (h0 : 0 ≤ tI τ 109) (hk : k ≠ 4) : VT (nvT τ k n t) := by
  have hn : tI τ 109 = (nV τ : Int) := by unfold nV; omega
  have Ft : FT [109, 110, 111, 112, 113] τ (nvT τ k n t) := by
    unfold nvT
    exact (((((FT.refl _ τ).ssA (by decide)).ssA (by decide)).ssA (by decide)).ssA (by decide)).ssI (by decide)
  have en : nV (nvT τ k n t) = nV τ + 1 := by
    have e1 : tI (nvT τ k n t) 109 = tI τ 109 + 1 := rfl
    unfold nV
    rw [e1]
    omega
  have eT : ∀ f (v : Nat), (f = 110 ∨ f = 111 ∨ f = 113) → v < nV τ → tA (nvT τ k n t) f v = tA τ f v := fun f v hf hv => by
    unfold nvT
    show (if f = 113 ∧ (v : Int) = tI τ 109 then _ else if f = 112 ∧ (v : Int) = tI τ 109 then _ else if f = 111 ∧ (v : Int) = tI τ 109 then _ else if f = 110 ∧ (v : Int) = tI τ 109 then _ else tA τ f v) = _
    rw [if_neg (by omega), if_neg (by omega), if_neg (by omega), if_neg (by omega)]
  intro v hv
  by_cases z : v = nV τ
  · intro h4
    exfalso
    have : tA (nvT τ k n t) 110 v = k := by
      rw [z]
      unfold nvT
      simp only [tA_sA, tA_sI, hn]
      simp
    omega
  · exact h.keep eT (fun i _ => (Ft 114 (by decide)).2 _) ⟨by show _ ≤ nK τ; exact Nat.le_refl _, fun j _ => ⟨(Ft 14 (by decide)).2 _, fun i _ => (Ft 15 (by decide)).2 _, fun o q => ofT_c (fun i => (Ft 13 (by decide)).2 i) q⟩⟩ (by omega)
end ZVt
