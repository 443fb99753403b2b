/-! what a rule calls is written beside all else: the field 66; the first of checks that fails; sorts of names -/
section ZW66
variable {p b e d : Nat} {w : CW} {τ : TW}
def w66 (w : CW) (h : Nat → Nat) : CW := (w.1, w.2.1, w.2.2.1, (fun g q => if g = 66 then h q else w.2.2.2.1 g q), w.2.2.2.2)
theorem w66_id : w66 w (fR w 66) = w := by
  unfold w66
  refine Prod.ext rfl (Prod.ext rfl (Prod.ext rfl (Prod.ext (funext fun g => funext fun q => ?_) rfl)))
  show (if g = 66 then fR w 66 q else _) = _
  split
  · rename_i z; subst z; rfl
  · rfl
theorem w66_pR (h : Nat → Nat) (x r : Nat) : pR (w66 w h) 66 x r = w66 w (fun y => if y = x then r else h y) := by
  unfold w66 pR
  refine Prod.ext rfl (Prod.ext rfl (Prod.ext rfl (Prod.ext (funext fun g => funext fun q => ?_) rfl)))
  show (if g = 66 ∧ q = x then r else if g = 66 then h q else _) = if g = 66 then (if q = x then r else h q) else _
  by_cases z : g = 66
  · subst z
    by_cases z2 : q = x
    · subst z2; simp
    · simp [z2]
  · simp [z]
theorem w66_fR (h : Nat → Nat) {f : Nat} (hf : f ≠ 66) (x : Nat) : fR (w66 w h) f x = fR w f x := if_neg hf
theorem w66_66 (h : Nat → Nat) (x : Nat) : fR (w66 w h) 66 x = h x := rfl
theorem w66_kd (h : Nat → Nat) (k : Nat) : kd (w66 w h) p k = kd w p k := rfl
theorem w66_core (h : Nat → Nat) (P : Nat → Nat → Nat → (Nat → Prop) → Prop) (Sn : Nat → Int) (N r q : Nat) (D : Nat → Prop) (nm : Int) : PCore P p b (w66 w h) τ Sn N r q D nm = PCore P p b w τ Sn N r q D nm := rfl
theorem w66_rel (h : Nat → Nat) (Sn : Nat → Int) : ∀ n, PRel p b (w66 w h) τ Sn n = PRel p b w τ Sn n := by
  intro n
  induction n with
  | zero => rfl
  | succ n ih =>
    funext N r q D
    unfold PRel
    rw [ih]
    rfl
theorem w66_krs (h : Nat → Nat) (m : Nat) : KRs p (w66 w h) τ m = KRs p w τ m := rfl
theorem w66_wf (h : Nat → Nat) : WF p (w66 w h) = WF p w := rfl
theorem w66_rur (h : Nat → Nat) (f i x lo hi : Nat) : RuR p (w66 w h) τ f i x lo hi = RuR p w τ f i x lo hi := by
  unfold RuR
  rw [w66_rel]
  rfl
theorem w66_fl (h : Nat → Nat) (f lo hi : Nat) : FL p (w66 w h) τ f lo hi = FL p w τ f lo hi := by
  unfold FL FRs
  simp only [w66_rur]
  rfl
theorem w66_fn (h : Nat → Nat) : FN p (w66 w h) τ = FN p w τ := by
  unfold FN
  simp only [w66_fl]
  rfl
theorem w66_nm (h : Nat → Nat) : FNm p (w66 w h) τ = FNm p w τ := rfl
/-- the first of n checks that fails -/
def ff (c : Nat → Int × Int) : Nat → Int × Int
  | 0 => (0, 0)
  | n + 1 => if (ff c n).1 = 0 then c n else ff c n
theorem ff_zero {c : Nat → Int × Int} : ∀ n, (ff c n).1 = 0 → ∀ k, k < n → (c k).1 = 0 := by
  intro n
  induction n with
  | zero => intro _ k hk; omega
  | succ n ih =>
    intro h k hk
    unfold ff at h
    by_cases z : (ff c n).1 = 0
    · rw [if_pos z] at h
      rcases Nat.lt_or_ge k n with y | y
      · exact ih z k y
      · rw [show k = n by omega]; exact h
    · rw [if_neg z] at h
      exact absurd h z
theorem ff_all {c : Nat → Int × Int} : ∀ n, (∀ k, k < n → (c k).1 = 0) → (ff c n).1 = 0 := by
  intro n
  induction n with
  | zero => intro _; rfl
  | succ n ih =>
    intro h
    unfold ff
    rw [if_pos (ih (fun k hk => h k (by omega)))]
    exact h n (by omega)
theorem ff_go {c : Nat → Int × Int} {n : Nat} (h : (ff c n).1 = 0) : ff c (n + 1) = c n := if_pos h
theorem ff_no {c : Nat → Int × Int} {n : Nat} (h : (ff c n).1 ≠ 0) : ff c (n + 1) = ff c n := if_neg h
theorem ff_stay {c : Nat → Int × Int} {n : Nat} (h : (ff c n).1 ≠ 0) : ∀ m, n ≤ m → ff c m = ff c n := by
  intro m
  induction m with
  | zero => intro z; rw [show n = 0 by omega]
  | succ m ih =>
    intro z
    rcases Nat.lt_or_ge n (m + 1) with y | y
    · have := ih (by omega)
      rw [ff_no (by rw [this]; exact h), this]
    · rw [show m + 1 = n by omega]
theorem ff_stop {c : Nat → Int × Int} {k : Nat} (h : (ff c k).1 = 0) (h2 : (c k).1 ≠ 0) {n : Nat} (hk : k < n) : ff c n = c k := by
  have e := ff_go h
  rw [← e]
  exact ff_stay (by rw [e]; exact h2) n hk
theorem PRel.sn {Sn : Nat → Int} (hK : ∀ k, k < nK τ → ∀ i : Nat, (i : Int) < tA τ 14 k → 0 ≤ tA τ 15 (4 * k + i : Nat) ∧ tA τ 15 (4 * k + i : Nat) < 3 + nK τ) : ∀ n N r q D, PRel p b w τ Sn n N r q D → (0 ≤ tA τ 18 q ∧ tA τ 18 q < 3 + nK τ) → ∀ k, D k → 0 ≤ Sn k ∧ Sn k < 3 + nK τ := by
  intro n
  induction n with
  | zero => intro N r q D h; exact h.elim
  | succ n ih =>
    intro N r q D h hq
    have core : ∀ r nm, PCore (PRel p b w τ Sn n) p b w τ Sn N r q D nm → ∀ k, D k → 0 ≤ Sn k ∧ Sn k < 3 + nK τ := by
      intro r nm h k hk
      obtain ⟨_, _, _, hs, h⟩ := h
      have own1 : own τ q k → 0 ≤ Sn k ∧ Sn k < 3 + nK τ := fun y => by rw [hs k y]; exact hq
      rcases h with ⟨h1, h2, h3, h4⟩ | ⟨h1, h2, h3, -, h4⟩ | ⟨h1, h2, h3, -, h4⟩ | ⟨h1, h2, h3, -, h4⟩ | ⟨h1, h2, h3, -, h4⟩ | ⟨h1, h2, h3, k', m, c, k1, k2, k3, k4, k5, k6, k7, k8, k9, Di, x1, x2, x3⟩ | ⟨h1, h2, m, c, k1, k2, k3, k4, k5, k6, D0, x1, x2, x3⟩
      · exact own1 ((h4 k).mp hk)
      · exact own1 ((h4 k).mp hk)
      · exact own1 ((h4 k).mp hk)
      · exact own1 ((h4 k).mp hk)
      · exact own1 ((h4 k).mp hk)
      · rcases (x2 k).mp hk with y | ⟨i, hi, y⟩
        · exact own1 y
        · refine ih _ _ _ _ (x1 i hi).2 ?_ k y
          have := hK k' k2 i (by rcases k5 with z | z <;> omega)
          have e : tA τ 18 (c i) = tA τ 15 (4 * k' + i : Nat) := k9 i hi
          rw [e]
          exact this
      · rcases (x2 k).mp hk with y | y
        · exact own1 y
        · have e : tA τ 18 (c 0) = tA τ 18 q := k6 0 (by omega)
          refine ih _ _ _ _ (x1 0 (by omega)).2 (by rw [e]; exact hq) k y
    obtain ⟨h1, h2, h⟩ := h
    rcases h with ⟨_, h⟩ | ⟨_, _, g1, g2, g3, g4, g5, h⟩
    · exact core _ _ h
    · exact core _ _ h
end ZW66
