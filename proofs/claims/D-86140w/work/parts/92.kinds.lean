/-! kinds of both -/
section ZKinds
variable {p d : Nat} {w : CW} {τ : TW}
def kd (w : CW) (p k : Nat) : Nat := aR w (fR w 0 p) k
def kfN (τ : TW) (v : Int) : Nat → Int
  | 0 => -4
  | n + 1 => if tA τ 12 n = v then (n : Int) else kfN τ v n
def slN (τ : TW) (k : Int) : Nat → Int
  | 0 => 0
  | n + 1 => if ¬ (slN τ k n = 0) ∨ tA τ 13 n = k then 1 else 0
def upN (τ : TW) : Nat → Int → Int
  | 0, k => k
  | n + 1, k => if k < 0 then k else upN τ n (tA τ 13 k)
def ofT (τ : TW) (k o : Int) : Prop := ∃ n, upN τ n k = o
noncomputable def ofB (τ : TW) (k o : Int) : Int := @ite Int (ofT τ k o) (Classical.propDecidable _) 1 0
/-- kinds' number -/
def nK (τ : TW) : Nat := (tI τ 10).toNat
/-- one kind (m: how many there are) -/
def KL (p : Nat) (w : CW) (τ : TW) (m k : Nat) : Prop :=
  tg w (kd w p k) = 3 ∧ p + 8 < kd w p k ∧ fI w 37 (kd w p k) = k ∧ fI w 38 (kd w p k) = tA τ 12 k ∧
  ((tA τ 13 k = -4 ∧ fR w 39 (kd w p k) = 0) ∨ ∃ u : Nat, u < k ∧ tA τ 13 k = u ∧ fR w 39 (kd w p k) = kd w p u) ∧
  fI w 42 (kd w p k) = tA τ 14 k ∧ 0 ≤ tA τ 14 k ∧ tA τ 14 k ≤ 4 ∧
  tg w (fR w 41 (kd w p k)) = 102 ∧ ln w (fR w 41 (kd w p k)) = 4 ∧ fR w 41 (kd w p k) = kd w p k + 1 ∧
  (∀ i : Nat, (i : Int) < tA τ 14 k → aI w (fR w 41 (kd w p k)) i = tA τ 15 (4 * k + i) ∧ 0 ≤ tA τ 15 (4 * k + i) ∧ tA τ 15 (4 * k + i) < 3 + m)
/-- where the LetterPost's kinds stand -/
def KA (p : Nat) (w : CW) : Prop := tg w (fR w 0 p) = 112 ∧ ln w (fR w 0 p) = 24 ∧ p < fR w 0 p ∧ fR w 0 p ≤ p + 8 ∧ p + 8 ≤ cz w
def KRs (p : Nat) (w : CW) (τ : TW) (m : Nat) : Prop := KA p w ∧ fI w 1 p = tI τ 10 ∧ 0 ≤ tI τ 10 ∧ tI τ 10 ≤ 24 ∧
  (∀ k, k < nK τ → KL p w τ (nK τ) k) ∧ (∀ j k, j < k → k < nK τ → tA τ 12 j ≠ tA τ 12 k) ∧
  (∀ k, k < nK τ → fI w 40 (kd w p k) = slN τ k m) ∧ (∀ j k : Nat, j < nK τ → k < nK τ → tA τ 13 j = k → tA τ 14 k = 0)
abbrev KR (p : Nat) (w : CW) (τ : TW) : Prop := KRs p w τ (nK τ)
theorem KL.fr {T : List Nat} {w' : CW} {τ' : TW} {m k : Nat} (hW : WF p w) (h : ∀ j, j ≤ k → KL p w τ m j) (hf : Fr (p :: T) w w') (hT : ∀ r, r ∈ T → r ≤ p + 8 ∨ cz w < r) (hk : ∀ j, j ≤ k → kd w' p j = kd w p j)
    (e12 : tA τ' 12 k = tA τ 12 k) (e13 : tA τ' 13 k = tA τ 13 k) (e14 : tA τ' 14 k = tA τ 14 k) (e15 : ∀ i : Nat, i < 4 → tA τ' 15 (4 * k + i) = tA τ 15 (4 * k + i)) : KL p w' τ' m k := by
  obtain ⟨h1, h2, h3, h4, h5, h6, h7, h8, h9, h10, h11, h12⟩ := h k (Nat.le_refl _)
  have nT : ∀ r, p + 8 < r → tg w r ≠ 0 → r ∉ p :: T := by
    intro r hr ht hm
    have hz := hW.le ht
    rcases List.mem_cons.mp hm with z | z
    · omega
    · rcases hT r z with y | y <;> omega
  have o1 := hf.eob hW (r := kd w p k) (by rw [h1]; decide) (nT _ h2 (by rw [h1]; decide))
  have o2 := hf.eob hW (r := fR w 41 (kd w p k)) (by rw [h9]; decide) (nT _ (by omega) (by rw [h9]; decide))
  have e := hk k (Nat.le_refl _)
  unfold KL
  rw [e, ob.etg o1, ob.efI o1, ob.efI o1, ob.efI o1, ob.efR o1, ob.efR o1, ob.etg o2, ob.eln o2, e12, e13, e14]
  refine ⟨h1, h2, h3, h4, ?_, h6, h7, h8, h9, h10, h11, fun i hi => ?_⟩
  · rcases h5 with z | ⟨u, z1, z2, z3⟩
    · exact Or.inl z
    · exact Or.inr ⟨u, z1, z2, by rw [hk u (by omega)]; exact z3⟩
  · rw [ob.eaI o2, e15 i (by omega)]
    exact h12 i hi
theorem slN_eq {τ' : TW} (k : Int) : ∀ n, (∀ j : Nat, j < n → tA τ' 13 j = tA τ 13 j) → slN τ' k n = slN τ k n := by
  intro n
  induction n with
  | zero => intro _; rfl
  | succ n ih =>
    intro h
    unfold slN
    rw [ih (fun j hj => h j (by omega)), h n (by omega)]
theorem KRs.fr {m : Nat} {T S S' : List Nat} {w' : CW} {τ' : TW} (hW : WF p w) (h : KRs p w τ m) (hf : Fr (p :: T) w w') (hp : PF S p w w') (hT : ∀ r, r ∈ T → (r ≤ p + 8 ∧ r ≠ fR w 0 p) ∨ cz w < r) (h0 : 0 ∉ S) (h1 : 1 ∉ S) (hF : FT S' τ τ') (hS' : ∀ f, f ∈ S' → f < 10 ∨ 15 < f) : KRs p w' τ' m := by
  obtain ⟨⟨a1, a2, a3, a4⟩, b1, b2, b3, b4, b5, b6, b7⟩ := h
  have t : ∀ f, 10 ≤ f → f ≤ 15 → tI τ' f = tI τ f ∧ ∀ i, tA τ' f i = tA τ f i := fun f q1 q2 => hF f (fun z => by have := hS' f z; omega)
  have e0 := (hp 0 h0).2
  have e1 := (hp 1 h1).1
  have nT0 : fR w 0 p ∉ p :: T := by
    intro hm
    have hz := hW.le (r := fR w 0 p) (by rw [a1]; decide)
    rcases List.mem_cons.mp hm with z | z
    · omega
    · rcases hT _ z with y | y
      · exact y.2 rfl
      · omega
  have o0 := hf.eob hW (r := fR w 0 p) (by rw [a1]; decide) nT0
  have ek : ∀ j, kd w' p j = kd w p j := fun j => by unfold kd; rw [e0, ob.eaR o0]
  have en : nK τ' = nK τ := by unfold nK; rw [(t 10 (by decide) (by decide)).1]
  refine ⟨⟨by rw [e0, ob.etg o0]; exact a1, by rw [e0, ob.eln o0]; exact a2, by rw [e0]; exact a3, by rw [e0]; exact a4.1, Nat.le_trans a4.2 hf.1⟩, by rw [e1, (t 10 (by decide) (by decide)).1]; exact b1, by rw [(t 10 (by decide) (by decide)).1]; exact b2, by rw [(t 10 (by decide) (by decide)).1]; exact b3, fun k hk => ?_, fun j k q1 q2 => ?_, fun k hk => ?_, fun j k q1 q2 q3 => ?_⟩
  · rw [en] at hk ⊢
    exact KL.fr hW (fun j hj => b4 j (by omega)) hf (fun r hr => by rcases hT r hr with y | y; exact Or.inl y.1; exact Or.inr y) (fun j _ => ek j) ((t 12 (by decide) (by decide)).2 _) ((t 13 (by decide) (by decide)).2 _) ((t 14 (by decide) (by decide)).2 _) (fun i _ => (t 15 (by decide) (by decide)).2 _)
  · rw [en] at q2
    rw [(t 12 (by decide) (by decide)).2, (t 12 (by decide) (by decide)).2]
    exact b5 j k q1 q2
  · rw [en] at hk
    have hl := b4 k hk
    have o1 := hf.eob hW (r := kd w p k) (by rw [hl.1]; decide) (by
      intro hm
      have hz := hW.le (r := kd w p k) (by rw [hl.1]; decide)
      have := hl.2.1
      rcases List.mem_cons.mp hm with z | z
      · omega
      · rcases hT _ z with y | y <;> omega)
    rw [ek, ob.efI o1, b6 k hk]
    exact (slN_eq _ _ (fun j _ => (t 13 (by decide) (by decide)).2 _)).symm
  · rw [en] at q1 q2
    rw [(t 13 (by decide) (by decide)).2] at q3
    rw [(t 14 (by decide) (by decide)).2]
    exact b7 j k q1 q2 q3
theorem KR.fr {T S S' : List Nat} {w' : CW} {τ' : TW} (hW : WF p w) (h : KR p w τ) (hf : Fr (p :: T) w w') (hp : PF S p w w') (hT : ∀ r, r ∈ T → (r ≤ p + 8 ∧ r ≠ fR w 0 p) ∨ cz w < r) (h0 : 0 ∉ S) (h1 : 1 ∉ S) (hF : FT S' τ τ') (hS' : ∀ f, f ∈ S' → f < 10 ∨ 15 < f) : KR p w' τ' := by
  have := KRs.fr hW h hf hp hT h0 h1 hF hS'
  have en : nK τ' = nK τ := by unfold nK; rw [(hF 10 (fun z => by have := hS' 10 z; omega)).1]
  unfold KR
  rw [en]
  exact this
/-- kinds by names -/
theorem kfN_spec (v : Int) : ∀ n, (kfN τ v n = -4 ∧ ∀ k : Nat, k < n → tA τ 12 k ≠ v) ∨ ∃ k : Nat, k < n ∧ kfN τ v n = k ∧ tA τ 12 k = v := by
  intro n
  induction n with
  | zero => exact Or.inl ⟨rfl, fun k hk => by omega⟩
  | succ n ih =>
    unfold kfN
    by_cases z : tA τ 12 n = v
    · exact Or.inr ⟨n, by omega, by rw [if_pos z], z⟩
    · rw [if_neg z]
      rcases ih with ⟨a, b⟩ | ⟨k, a, b, c⟩
      · refine Or.inl ⟨a, fun k hk => ?_⟩
        rcases Nat.lt_or_ge k n with y | y
        · exact b k y
        · have : k = n := by omega
          rw [this]; exact z
      · exact Or.inr ⟨k, by omega, b, c⟩
/-- the reference's kind of a name, at hand -/
def kfB (τ : TW) (v : Int) : Int := kfN τ v (nK τ)
theorem sT_kindOf {v : Int} {Q : ZRes → TW → Prop} (h0 : 0 ≤ tI τ 10) (h24 : tI τ 10 ≤ 24) (hQ : Q (.inl (some (ai (kfB τ v)))) τ) : wpT (d + 1) 14 [al v] τ Q := by
  refine wT_kindOf (Nat.zero_le _) ?_
  intro I hI
  have key : ∀ m j : Nat, nK τ - j ≤ m → j ≤ nK τ → I (kfN τ v j) (j : Int) τ := by
    intro m
    induction m with
    | zero =>
      intro j h1 h2
      have : j = nK τ := by omega
      subst this
      exact hI _ _ _ ⟨fun _ => hQ, fun h => by unfold nK at h; omega⟩
    | succ m ih =>
      intro j h1 h2
      by_cases hj : j = nK τ
      · subst hj
        exact hI _ _ _ ⟨fun _ => hQ, fun h => by unfold nK at h; omega⟩
      · have hlt : (j : Int) < tI τ 10 := by unfold nK at *; omega
        refine hI _ _ _ ⟨fun h => by have h : tI τ 10 ≤ (j : Int) := h; omega, fun _ => ⟨⟨by omega, by omega⟩, fa (fa ?_)⟩⟩
        rw [w32_k (by omega)]
        exact ih (j + 1) (by omega) (by omega)
  exact key (nK τ) 0 (by omega) (by omega)
theorem sC_named {v : Int} {Q : ZRes → CW → Prop} {m : Nat} (h : KRs p w τ m) (hQ : Q (.inl (some (ar (if kfB τ v = -4 then 0 else kd w p (kfB τ v).toNat)))) w) : wpC p (d + 1) 15 [ar p, al v] w Q := by
  obtain ⟨⟨a1, a2, a3, a4⟩, b1, b2, b3, b4, b5, b6, b7⟩ := h
  refine wC_X0_named (Nat.zero_le _) ?_
  intro I hI
  have key : ∀ m j : Nat, nK τ - j ≤ m → j ≤ nK τ → (∀ q : Nat, q < j → tA τ 12 q ≠ v) → I (j : Int) w := by
    intro m
    induction m with
    | zero =>
      intro j h1 h2 hno
      have : j = nK τ := by omega
      subst this
      refine hI _ _ ⟨fun _ => ?_, fun h => by unfold nK at h; omega⟩
      rcases kfN_spec (τ := τ) v (nK τ) with ⟨z, _⟩ | ⟨k, z1, z2, z3⟩
      · have : kfB τ v = -4 := z
        rw [if_pos this] at hQ; exact hQ
      · exact absurd z3 (hno k z1)
    | succ m ih =>
      intro j h1 h2 hno
      by_cases hj : j = nK τ
      · subst hj
        refine hI _ _ ⟨fun _ => ?_, fun h => by unfold nK at h; omega⟩
        rcases kfN_spec (τ := τ) v (nK τ) with ⟨z, _⟩ | ⟨k, z1, z2, z3⟩
        · have : kfB τ v = -4 := z
          rw [if_pos this] at hQ; exact hQ
        · exact absurd z3 (hno k z1)
      · have hlt : (j : Int) < tI τ 10 := by unfold nK at *; omega
        have hl := b4 j (by omega)
        have hrd : (111 ≤ tg w (fR w 0 p) ∧ tg w (fR w 0 p) ≤ 119) ∧ 0 ≤ (j : Int) ∧ (j : Int) < ln w (fR w 0 p) := ⟨by rw [a1]; decide, by omega, by rw [a2]; omega⟩
        have hnm : fI w 38 (aR w (fR w 0 p) (j : Int)) = tA τ 12 j := hl.2.2.2.1
        have htg : tg w (aR w (fR w 0 p) (j : Int)) = 3 := hl.1
        refine hI _ _ ⟨fun h => by rw [b1] at h; omega, fun _ => ⟨hrd, by rw [htg]; decide, fun e => ⟨hrd, ?_⟩, fun e => fa ?_⟩⟩
        · rw [hnm] at e
          have : kfB τ v = j := by
            rcases kfN_spec (τ := τ) v (nK τ) with ⟨z, y⟩ | ⟨k, z1, z2, z3⟩
            · exact absurd e (y j (by omega))
            · have : k = j := by
                rcases Nat.lt_trichotomy k j with x | x | x
                · exact absurd (z3.trans e.symm) (b5 k j x (by omega))
                · exact x
                · exact absurd (e.trans z3.symm) (b5 j k x z1)
              unfold kfB; rw [z2, this]
          rw [this, if_neg (by omega)] at hQ
          exact hQ
        · rw [w32_k (by omega)]
          exact ih (j + 1) (by omega) (by omega) (fun q hq => by
            rcases Nat.lt_or_ge q j with y | y
            · exact hno q y
            · have : q = j := by omega
              rw [this, ← hnm]; exact e)
  exact key (nK τ) 0 (by omega) (by omega) (fun q hq => by omega)
theorem sT_isSealed {k : Int} {Q : ZRes → TW → Prop} (h0 : 0 ≤ tI τ 10) (h24 : tI τ 10 ≤ 24) (hQ : Q (.inl (some (ai (slN τ k (nK τ))))) τ) : wpT (d + 1) 16 [ai k] τ Q := by
  have h01 : ∀ n, slN τ k n = 0 ∨ slN τ k n = 1 := by
    intro n
    cases n with
    | zero => exact Or.inl rfl
    | succ n => unfold slN; split
                · exact Or.inr rfl
                · exact Or.inl rfl
  refine wT_isSealed (Nat.zero_le _) ?_
  intro I hI
  have key : ∀ m j : Nat, nK τ - j ≤ m → j ≤ nK τ → I (slN τ k j) (j : Int) τ := by
    intro m
    induction m with
    | zero =>
      intro j h1 h2
      have : j = nK τ := by omega
      subst this
      exact hI _ _ _ ⟨fun _ => ⟨h01 _, hQ⟩, fun h => by unfold nK at h; omega⟩
    | succ m ih =>
      intro j h1 h2
      by_cases hj : j = nK τ
      · subst hj
        exact hI _ _ _ ⟨fun _ => ⟨h01 _, hQ⟩, fun h => by unfold nK at h; omega⟩
      · have hlt : (j : Int) < tI τ 10 := by unfold nK at *; omega
        refine hI _ _ _ ⟨fun h => by have h : tI τ 10 ≤ (j : Int) := h; omega, fun _ => ⟨fun _ => ⟨by omega, by omega⟩, fa (fa ?_)⟩⟩
        rw [w32_k (by omega)]
        exact ih (j + 1) (by omega) (by omega)
  exact key (nK τ) 0 (by omega) (by omega)
theorem upN_neg {k : Int} (h : k < 0) : ∀ n, upN τ n k = k := by
  intro n
  cases n with
  | zero => rfl
  | succ n => unfold upN; rw [if_pos h]
theorem ofT_neg {k o : Int} (h : k < 0) : ofT τ k o ↔ k = o := by
  constructor
  · rintro ⟨n, e⟩; rw [upN_neg h] at e; exact e
  · intro e; exact ⟨0, e⟩
theorem ofT_step {k o : Int} (h : 0 ≤ k) : ofT τ k o ↔ k = o ∨ ofT τ (tA τ 13 k) o := by
  constructor
  · rintro ⟨n, e⟩
    cases n with
    | zero => exact Or.inl e
    | succ n => unfold upN at e; rw [if_neg (by omega)] at e; exact Or.inr ⟨n, e⟩
  · rintro (e | ⟨n, e⟩)
    · exact ⟨0, e⟩
    · exact ⟨n + 1, by unfold upN; rw [if_neg (by omega)]; exact e⟩
theorem ofB_1 {k o : Int} (h : ofT τ k o) : ofB τ k o = 1 := by unfold ofB; rw [if_pos h]
theorem ofB_0 {k o : Int} (h : ¬ ofT τ k o) : ofB τ k o = 0 := by unfold ofB; rw [if_neg h]
/-- under: below, or none -/
def UnT (τ : TW) : Prop := ∀ k : Nat, k < nK τ → k < 24 ∧ (tA τ 13 k = -4 ∨ ∃ u : Nat, u < k ∧ tA τ 13 k = u)
theorem KRs.un {m : Nat} (h : KRs p w τ m) : UnT τ := fun k hk => ⟨by have := h.2.2.2.1; unfold nK at hk; omega, by
  rcases (h.2.2.2.2.1 k hk).2.2.2.2.1 with z | ⟨u, z1, z2, _⟩
  · exact Or.inl z.1
  · exact Or.inr ⟨u, z1, z2⟩⟩
theorem sT_isOf (hU : UnT τ) {k o : Nat} (hk : k < nK τ) {Q : ZRes → TW → Prop} (hQ : Q (.inl (some (ai (ofB τ k o)))) τ) : wpT (d + 1) 26 [ai k, ai o] τ Q := by
  refine wT_isOf (Nat.zero_le _) ?_
  intro I hI
  have neg : ∀ j : Int, j < 0 → (∀ v : Int, (v = if j = (o : Int) then 1 else 0) → Q (.inl (some (ai v))) τ) → I j τ := by
    intro j hj h
    exact hI _ _ ⟨fun z => by omega, fun _ => fa (h _ rfl)⟩
  have key : ∀ m j : Nat, j ≤ m → j < nK τ → Q (.inl (some (ai (ofB τ j o)))) τ → I (j : Int) τ := by
    intro m
    induction m with
    | zero =>
      intro j h1 h2 hq
      obtain ⟨u1, u2⟩ := hU j h2
      refine hI _ _ ⟨fun z => ⟨⟨by omega, by omega⟩, fa ?_⟩, fun z => fa ?_⟩
      · rcases u2 with y | ⟨u, y1, y2⟩
        · show I (tA τ 13 (j : Int)) τ
          rw [show tA τ 13 (j : Int) = -4 from y]
          refine neg _ (by decide) (fun v hv => ?_)
          rw [ofB_0 (fun x => by
            rcases (ofT_step (by omega)).mp x with x | x
            · exact z.2 x
            · rw [show tA τ 13 (j : Int) = -4 from y] at x
              have := (ofT_neg (by decide)).mp x
              omega)] at hq
          rw [hv, if_neg (by omega)]; exact hq
        · omega
      · by_cases y : (j : Int) = (o : Int)
        · rw [if_pos y]; rw [ofB_1 ⟨0, y⟩] at hq; exact hq
        · exact absurd ⟨by omega, y⟩ z
    | succ m ih =>
      intro j h1 h2 hq
      obtain ⟨u1, u2⟩ := hU j h2
      refine hI _ _ ⟨fun z => ⟨⟨by omega, by omega⟩, fa ?_⟩, fun z => fa ?_⟩
      · have hst : ofB τ j o = ofB τ (tA τ 13 j) o := by
          by_cases x : ofT τ (tA τ 13 j) o
          · rw [ofB_1 x, ofB_1 ((ofT_step (by omega)).mpr (Or.inr x))]
          · rw [ofB_0 x, ofB_0 (fun y => by
              rcases (ofT_step (by omega)).mp y with y | y
              · exact z.2 y
              · exact x y)]
        rw [hst] at hq
        rcases u2 with y | ⟨u, y1, y2⟩
        · show I (tA τ 13 (j : Int)) τ
          rw [show tA τ 13 (j : Int) = -4 from y] at hq ⊢
          refine neg _ (by decide) (fun v hv => ?_)
          rw [ofB_0 (fun x => by have := (ofT_neg (by decide)).mp x; omega)] at hq
          rw [hv, if_neg (by omega)]; exact hq
        · show I (tA τ 13 (j : Int)) τ
          rw [show tA τ 13 (j : Int) = u from y2] at hq ⊢
          exact ih u (by omega) (by omega) hq
      · by_cases y : (j : Int) = (o : Int)
        · rw [if_pos y]; rw [ofB_1 ⟨0, y⟩] at hq; exact hq
        · exact absurd ⟨by omega, y⟩ z
  exact key k k (Nat.le_refl _) hk hQ
theorem sC_is {m : Nat} (h : KRs p w τ m) (hW : WF p w) {k o : Nat} (hk : k < nK τ) (ho : o < nK τ) {Q : ZRes → CW → Prop} (hQ : Q (.inl (some (ai (ofB τ k o)))) w) : wpC p (d + 1) 83 [ar (kd w p k), ar (kd w p o)] w Q := by
  have b4 := h.2.2.2.2.1
  refine wC_X3_is (Nat.zero_le _) ?_
  intro I hI
  have hne : ∀ j, j < nK τ → kd w p j ≠ 0 := by
    intro j hj e
    have := (b4 j hj).1
    rw [e, hW.1] at this; cases this
  have hinj : ∀ j, j < nK τ → (kd w p j = kd w p o ↔ (j : Int) = (o : Int)) := by
    intro j hj
    constructor
    · intro e
      have h1 := (b4 j hj).2.2.1
      have h2 := (b4 o ho).2.2.1
      rw [e] at h1; omega
    · intro e
      have : j = o := by omega
      rw [this]
  have key : ∀ m j : Nat, j ≤ m → j < nK τ → Q (.inl (some (ai (ofB τ j o)))) w → I (kd w p j) w := by
    intro m
    induction m with
    | zero =>
      intro j h1 h2 hq
      refine hI _ _ ⟨fun z => ⟨by rw [(b4 j h2).1]; decide, fa ?_⟩, fun z => fa ?_⟩
      · rcases (b4 j h2).2.2.2.2.1 with ⟨y1, y2⟩ | ⟨u, y1, y2, y3⟩
        · rw [show fR w 39 (kd w p j) = 0 from y2]
          refine hI _ _ ⟨fun z => absurd rfl z.1, fun _ => fa ?_⟩
          rw [if_neg (fun z => z rfl)]
          rw [ofB_0 (fun x => by
            rcases (ofT_step (by omega)).mp x with x | x
            · exact z.2 ((hinj j h2).mpr x)
            · rw [y1] at x
              have := (ofT_neg (by decide)).mp x
              omega)] at hq
          exact hq
        · omega
      · by_cases y : kd w p j = kd w p o
        · rw [if_pos (hne j h2)]; rw [ofB_1 ⟨0, (hinj j h2).mp y⟩] at hq; exact hq
        · exact absurd ⟨hne j h2, y⟩ z
    | succ m ih =>
      intro j h1 h2 hq
      refine hI _ _ ⟨fun z => ⟨by rw [(b4 j h2).1]; decide, fa ?_⟩, fun z => fa ?_⟩
      · have hst : ofB τ j o = ofB τ (tA τ 13 j) o := by
          by_cases x : ofT τ (tA τ 13 j) o
          · rw [ofB_1 x, ofB_1 ((ofT_step (by omega)).mpr (Or.inr x))]
          · rw [ofB_0 x, ofB_0 (fun y => by
              rcases (ofT_step (by omega)).mp y with y | y
              · exact z.2 ((hinj j h2).mpr y)
              · exact x y)]
        rw [hst] at hq
        rcases (b4 j h2).2.2.2.2.1 with ⟨y1, y2⟩ | ⟨u, y1, y2, y3⟩
        · rw [show fR w 39 (kd w p j) = 0 from y2]
          rw [y1] at hq
          refine hI _ _ ⟨fun z => absurd rfl z.1, fun _ => fa ?_⟩
          rw [if_neg (fun z => z rfl)]
          rw [ofB_0 (fun x => by have := (ofT_neg (by decide)).mp x; omega)] at hq
          exact hq
        · rw [show fR w 39 (kd w p j) = kd w p u from y3]
          rw [y2] at hq
          exact ih u (by omega) (by omega) hq
      · by_cases y : kd w p j = kd w p o
        · rw [if_pos (hne j h2)]; rw [ofB_1 ⟨0, (hinj j h2).mp y⟩] at hq; exact hq
        · exact absurd ⟨hne j h2, y⟩ z
  exact key k k (Nat.le_refl _) hk hQ
theorem sC_kindOf {m : Nat} (h : KRs p w τ m) {s : Int} {k : Nat} (hs : s = 3 + k) (hk : k < nK τ) {Q : ZRes → CW → Prop} (hQ : Q (.inl (some (ar (kd w p k)))) w) : wpC p (d + 1) 31 [ar p, ai s] w Q := by
  have e : w32 (s - 3) = (k : Int) := by
    have := h.2.2.2.1
    unfold nK at hk
    rw [hs, w32_s (by omega) (by omega)]; omega
  refine wC_X0_kindOf (Nat.zero_le _) ?_
  unfold pC_X0_kindOf_0
  rw [e]
  exact ⟨⟨by rw [h.1.1]; decide, by omega, by rw [h.1.2.1]; have := h.2.2.2.1; unfold nK at hk; omega⟩, hQ⟩
end ZKinds
