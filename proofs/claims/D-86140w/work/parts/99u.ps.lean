/-! patterns while they are read: what holds all the time, and what a pattern leaves -/
section ZPS
variable {p b e : Nat} {w : CW} {τ : TW}
def PS (p : Nat) (w : CW) (τ : TW) (o : Nat) : Prop := RB p w τ ∧ KR p w τ ∧ NmR p w τ ∧ tI τ 16 = np τ ∧ (np τ : Int) ≤ tI τ 5 ∧ tI τ 32 = o ∧ o ≤ 6 ∧ fI w 19 p = o ∧ fI w 20 p = 0 ∧ (∀ k, k < o → SLv τ k) ∧ ∀ k, k < o → ∃ q : Nat, tA τ 33 k = q ∧ q < np τ
/-- the reference's rows that stay: patterns, what is open, other rules' names -/
def UT (τ τ' : TW) (o : Nat) : Prop := (∀ f, 17 ≤ f → f ≤ 26 → ∀ x : Nat, x < np τ → tA τ' f x = tA τ f x) ∧ (∀ f, 33 ≤ f → f ≤ 39 → ∀ x : Nat, x < o → tA τ' f x = tA τ f x) ∧ (∀ x : Nat, x < 8 * o → tA τ' 40 x = tA τ 40 x) ∧ (∀ x : Nat, (x < 8 * nR τ ∨ 8 * nR τ + 8 ≤ x) → tA τ' 29 x = tA τ 29 x ∧ tA τ' 30 x = tA τ 30 x) ∧ ∀ x : Nat, x ≠ nR τ → tA τ' 28 x = tA τ 28 x
theorem UT.ft {S : List Nat} {τ' : TW} (F : FT S τ τ') (hS : ∀ f, f ∈ S → f < 17 ∨ 40 < f) (o : Nat) : UT τ τ' o := by
  have g : ∀ f, 17 ≤ f → f ≤ 40 → ∀ x, tA τ' f x = tA τ f x := fun f h1 h2 => (F f (fun y => by have := hS f y; omega)).2
  exact ⟨fun f h1 h2 x _ => g f h1 (by omega) _, fun f h1 h2 x _ => g f (by omega) (by omega) _, fun x _ => g 40 (by decide) (by decide) _, fun x _ => ⟨g 29 (by decide) (by decide) _, g 30 (by decide) (by decide) _⟩, fun x _ => g 28 (by decide) (by decide) _⟩
theorem UT.trans {τ' τ'' : TW} {o : Nat} (h : UT τ τ' o) (k : UT τ' τ'' o) (hn : np τ ≤ np τ') (hr : nR τ' = nR τ) : UT τ τ'' o := by
  obtain ⟨a1, a2, a3, a4, a5⟩ := h
  obtain ⟨b1, b2, b3, b4, b5⟩ := k
  rw [hr] at b4 b5
  exact ⟨fun f h1 h2 x hx => (b1 f h1 h2 x (by omega)).trans (a1 f h1 h2 x hx), fun f h1 h2 x hx => (b2 f h1 h2 x hx).trans (a2 f h1 h2 x hx), fun x hx => (b3 x hx).trans (a3 x hx), fun x hx => ⟨(b4 x hx).1.trans (a4 x hx).1, (b4 x hx).2.trans (a4 x hx).2⟩, fun x hx => (b5 x hx).trans (a5 x hx)⟩
theorem UT.weak {τ' : TW} {o o' : Nat} (h : UT τ τ' o) (ho : o' ≤ o) : UT τ τ' o' := ⟨h.1, fun f h1 h2 x hx => h.2.1 f h1 h2 x (by omega), fun x hx => h.2.2.1 x (by omega), h.2.2.2.1, h.2.2.2.2⟩
theorem UT.new (kd s : Int) (o : Nat) : UT τ (nwT τ kd s) o := by
  have F := nwT_ft τ kd s
  exact ⟨fun f _ _ x hx => nwT_old τ kd s f x (by omega), fun f h1 h2 x _ => (F f (by simp only [List.mem_cons, List.not_mem_nil, or_false]; omega)).2 _, fun x _ => (F 40 (by decide)).2 _, fun x _ => ⟨(F 29 (by decide)).2 _, (F 30 (by decide)).2 _⟩, fun x _ => (F 28 (by decide)).2 _⟩
theorem UT.wr {σ σ' : TW} {o f : Nat} {v : Int} (h : UT τ σ o) (hf : 17 ≤ f ∧ f ≤ 26) (hσ : σ' = sA σ f (np τ) v) : UT τ σ' o := by
  obtain ⟨a1, a2, a3, a4, a5⟩ := h
  have k : ∀ (g x : Nat), (g ≠ f ∨ x ≠ np τ) → tA σ' g x = tA σ g x := fun g x hx => by rw [hσ, tA_sA, if_neg (by omega)]
  exact ⟨fun g h1 h2 x hx => (k g x (Or.inr (by omega))).trans (a1 g h1 h2 x hx), fun g h1 h2 x hx => (k g x (Or.inl (by omega))).trans (a2 g h1 h2 x hx), fun x hx => (k 40 x (Or.inl (by omega))).trans (a3 x hx), fun x hx => ⟨(k 29 x (Or.inl (by omega))).trans (a4 x hx).1, (k 30 x (Or.inl (by omega))).trans (a4 x hx).2⟩, fun x hx => (k 28 x (Or.inl (by omega))).trans (a5 x hx)⟩
/-- of a row its kind and what it is of, and what is open -/
def UL (τ τ' : TW) (o : Nat) : Prop := (∀ f, f = 17 ∨ f = 19 → ∀ x : Nat, x < np τ → tA τ' f x = tA τ f x) ∧ ∀ f, 33 ≤ f → f ≤ 35 → ∀ x : Nat, x < o → tA τ' f x = tA τ f x
theorem UT.ul {τ' : TW} {o : Nat} (u : UT τ τ' o) : UL τ τ' o := ⟨fun f hf x hx => u.1 f (by omega) (by omega) x hx, fun f h1 h2 x hx => u.2.1 f h1 (by omega) x hx⟩
theorem SLv.on' {τ' : TW} {o k : Nat} (h : SLv τ k) (hk : k < o) (u : UL τ τ' o) (hq : ∃ q : Nat, tA τ 33 k = q ∧ q < np τ) : SLv τ' k := by
  obtain ⟨q, h1, h2, h3, h4, h5, h6⟩ := h
  obtain ⟨q', g1, g2⟩ := hq
  have eq : q' = q := by omega
  subst eq
  refine ⟨q', by rw [u.2 33 (by decide) (by decide) k hk]; exact h1, h2, by rw [u.2 34 (by decide) (by decide) k hk]; exact h3, by rw [u.2 34 (by decide) (by decide) k hk]; exact h4, by rw [u.2 35 (by decide) (by decide) k hk]; exact h5, ?_⟩
  rw [u.1 17 (by decide) q' g2, u.1 19 (by decide) q' g2, u.2 34 (by decide) (by decide) k hk]
  exact h6
theorem SLv.on {τ' : TW} {o k : Nat} (h : SLv τ k) (hk : k < o) (u : UT τ τ' o) (hq : ∃ q : Nat, tA τ 33 k = q ∧ q < np τ) : SLv τ' k := h.on' hk u.ul hq
theorem PS.on' {T S S' : List Nat} {w' : CW} {τ' : TW} {o : Nat} (h : PS p w τ o) (c : CF p T S S' w τ w' τ') (rb : RB p w' τ') (nm : NmR p w' τ') (hT : ∀ r, r ∈ T → r = fR w 15 p ∨ r = fR w 16 p) (e16 : tI τ' 16 = np τ') (e16' : np τ ≤ np τ' ∧ (np τ' : Int) ≤ tI τ' 5) (e32 : tI τ' 32 = tI τ 32) (u : UL τ τ' o)
    (hS : ∀ f, f ∈ S → f ≠ 0 ∧ f ≠ 1 ∧ f ≠ 19 ∧ f ≠ 20 := by decide) (hS' : ∀ f, f ∈ S' → f < 10 ∨ 15 < f := by decide) : PS p w' τ' o := by
  obtain ⟨h1, h2, h3, h4, h5, h6, h7, h8, h9, h10, h11⟩ := h
  have hK := h2.fr h1.1 c.1 c.2.1 (fun r hr => by
    have nA := h3.1
    have kA := h2.1
    rcases hT r hr with y | y
    · rw [y]; exact Or.inl ⟨nA.1.2.2.2, fun z => by have := nA.1.1; rw [z, kA.1] at this; cases this⟩
    · rw [y]; exact Or.inl ⟨nA.2.2.2.2, fun z => by have := nA.2.1; rw [z, kA.1] at this; cases this⟩) (fun y => (hS _ y).1 rfl) (fun y => (hS _ y).2.1 rfl) c.2.2.2.1 hS'
  refine ⟨rb, hK, nm, e16, e16'.2, by rw [e32]; exact h6, h7, by rw [(c.2.1 19 (fun y => (hS _ y).2.2.1 rfl)).1]; exact h8, by rw [(c.2.1 20 (fun y => (hS _ y).2.2.2 rfl)).1]; exact h9, fun k hk => (h10 k hk).on' hk u (h11 k hk), fun k hk => ?_⟩
  obtain ⟨q, a, a'⟩ := h11 k hk
  exact ⟨q, by rw [u.2 33 (by decide) (by decide) k hk]; exact a, by omega⟩
theorem PS.on {T S S' : List Nat} {w' : CW} {τ' : TW} {o : Nat} (h : PS p w τ o) (c : CF p T S S' w τ w' τ') (rb : RB p w' τ') (nm : NmR p w' τ') (hT : ∀ r, r ∈ T → r = fR w 15 p ∨ r = fR w 16 p) (e16 : tI τ' 16 = np τ') (e16' : np τ ≤ np τ' ∧ (np τ' : Int) ≤ tI τ' 5) (e32 : tI τ' 32 = tI τ 32) (u : UT τ τ' o)
    (hS : ∀ f, f ∈ S → f ≠ 0 ∧ f ≠ 1 ∧ f ≠ 19 ∧ f ≠ 20 := by decide) (hS' : ∀ f, f ∈ S' → f < 10 ∨ 15 < f := by decide) : PS p w' τ' o :=
  h.on' c rb nm hT e16 e16' e32 u.ul hS hS'
/-- a pattern's name is no part of it -/
theorem PS.p68 {o r : Nat} {v : Int} (h : PS p w τ o) (rb : RB p (pI w 68 r v) τ) : PS p (pI w 68 r v) τ o := by
  obtain ⟨h1, h2, h3, h4, h5, h6, h7, h8, h9, h10, h11⟩ := h
  exact ⟨rb, h2, h3, h4, h5, h6, h7, h8, h9, h10, h11⟩
/-- names: what comes to them -/
def BN (τ τ' : TW) (D : Nat → Prop) : Prop := (nN τ ≤ nN τ' ∧ ∀ k, k < nN τ' → k < nN τ ∨ D k) ∧ (∀ k, k < nN τ → tA τ' 29 (8 * nR τ + k : Nat) = tA τ 29 (8 * nR τ + k : Nat)) ∧ (∀ k, D k → k < nN τ' ∧ bit (tI τ 31) k = 0) ∧ (∀ k, k < 8 → (bit (tI τ' 31) k = 1 ↔ bit (tI τ 31) k = 1 ∨ D k)) ∧ ∀ k, k < 8 → ¬ D k → tA τ' 30 (8 * nR τ + k : Nat) = tA τ 30 (8 * nR τ + k : Nat)
theorem nN_ft {S : List Nat} {τ' : TW} (F : FT S τ τ') (h27 : 27 ∉ S) (h28 : 28 ∉ S) : nN τ' = nN τ := by
  unfold nN
  rw [(F 27 h27).1, (F 28 h28).2]
theorem nR_ft {S : List Nat} {τ' : TW} (F : FT S τ τ') (h27 : 27 ∉ S) : nR τ' = nR τ := by
  unfold nR
  rw [(F 27 h27).1]
theorem np_ft {S : List Nat} {τ' : TW} (F : FT S τ τ') (h : 16 ∉ S) : np τ' = np τ := by
  unfold np
  rw [(F 16 h).1]
theorem BN.ft {S : List Nat} {τ' : TW} (F : FT S τ τ') (hS : ∀ f, f ∈ S → f < 27 ∨ 31 < f) : BN τ τ' (fun _ => False) := by
  have g : ∀ f, 27 ≤ f → f ≤ 31 → f ∉ S := fun f h1 h2 y => by have := hS f y; omega
  refine ⟨by rw [nN_ft F (g _ (by decide) (by decide)) (g _ (by decide) (by decide))]; exact ⟨Nat.le_refl _, fun k hk => Or.inl hk⟩, fun k _ => (F 29 (g _ (by decide) (by decide))).2 _, fun k h => h.elim, fun k _ => ?_, fun k _ _ => (F 30 (g _ (by decide) (by decide))).2 _⟩
  rw [(F 31 (g _ (by decide) (by decide))).1, or_false]
theorem BN.st {S S2 : List Nat} {τ1 τ2 τ3 : TW} {D : Nat → Prop} (h : BN τ1 τ2 D) (F1 : FT S τ τ1) (F2 : FT S2 τ2 τ3) (hS : ∀ f, f ∈ S → f < 27 ∨ 31 < f := by decide) (hS2 : ∀ f, f ∈ S2 → f < 27 ∨ 31 < f := by decide) : BN τ τ3 D := by
  have g1 : ∀ f, 27 ≤ f → f ≤ 31 → f ∉ S := fun f h1 h2 y => by have := hS f y; omega
  have g2 : ∀ f, 27 ≤ f → f ≤ 31 → f ∉ S2 := fun f h1 h2 y => by have := hS2 f y; omega
  have n1 : nN τ1 = nN τ := nN_ft F1 (g1 _ (by decide) (by decide)) (g1 _ (by decide) (by decide))
  have n3 : nN τ3 = nN τ2 := nN_ft F2 (g2 _ (by decide) (by decide)) (g2 _ (by decide) (by decide))
  have r1 : nR τ1 = nR τ := nR_ft F1 (g1 _ (by decide) (by decide))
  obtain ⟨a1, a2, a3, a4, a5⟩ := h
  rw [n1, (F1 31 (g1 _ (by decide) (by decide))).1] at *
  rw [r1] at a2 a5
  refine ⟨by rw [n3]; exact a1, fun k hk => ?_, fun k hk => by rw [n3]; exact a3 k hk, fun k hk => by rw [(F2 31 (g2 _ (by decide) (by decide))).1]; exact a4 k hk, fun k hk hk1 => ?_⟩
  · rw [(F2 29 (g2 _ (by decide) (by decide))).2, a2 k hk, (F1 29 (g1 _ (by decide) (by decide))).2]
  · rw [(F2 30 (g2 _ (by decide) (by decide))).2, a5 k hk hk1, (F1 30 (g1 _ (by decide) (by decide))).2]
theorem BN.trans {τ1 τ2 : TW} {D1 D2 : Nat → Prop} (h : BN τ τ1 D1) (k : BN τ1 τ2 D2) (hr : nR τ1 = nR τ) (h01 : ∀ k, k < 8 → bit (tI τ 31) k = 0 ∨ bit (tI τ 31) k = 1) (h8 : nN τ2 ≤ 8) : BN τ τ2 (fun k => D1 k ∨ D2 k) := by
  obtain ⟨⟨a1, a1'⟩, a2, a3, a4, a5⟩ := h
  obtain ⟨⟨b1, b1'⟩, b2, b3, b4, b5⟩ := k
  rw [hr] at b2 b5
  refine ⟨⟨by omega, fun k hk => by rcases b1' k hk with y | y; exact (a1' k y).imp id Or.inl; exact Or.inr (Or.inr y)⟩, fun k hk => (b2 k (by omega)).trans (a2 k hk), fun k hk => ?_, fun k hk => ?_, fun k hk hk1 => ?_⟩
  · rcases hk with hk | hk
    · exact ⟨by have := (a3 k hk).1; omega, (a3 k hk).2⟩
    · obtain ⟨c1, c2⟩ := b3 k hk
      refine ⟨c1, ?_⟩
      rcases h01 k (by omega) with y | y
      · exact y
      · have := (a4 k (by omega)).mpr (Or.inl y)
        omega
  · rw [b4 k hk, a4 k hk, or_assoc]
  · rw [b5 k hk (fun y => hk1 (Or.inr y)), a5 k hk (fun y => hk1 (Or.inl y))]
theorem bits_01 (h : NmR p w τ) (k : Nat) (hk : k < 8) : bit (tI τ 31) k = 0 ∨ bit (tI τ 31) k = 1 := bit_01 h (by omega)
theorem kd_fr2 {T : List Nat} {w' : CW} (K : KA p w) (hf : Fr T w w') (hp : fR w' 0 p = fR w 0 p) (hT : fR w 0 p ∉ T) (j : Nat) : kd w' p j = kd w p j := by
  unfold kd
  rw [show fR w' 0 p = fR w 0 p from hp]
  exact ob.eaR (hf.2.2.2.2 _ (by have := K.2.2.2.1; have := K.2.2.2.2; omega) hT) _
/-- the names' sorts in the rule at hand -/
def SnR (τ : TW) (k : Nat) : Int := tA τ 30 (8 * nR τ + k : Nat)
/-- a pattern is read: the row np τ, the object r -/
def PN (p b n : Nat) (τ : TW) (s : Int) (o : Nat) (r : Nat) (v : Int × Int) (w' : CW) (τ' : TW) : Prop := v = (((np τ : Nat) : Int), 1) ∧ PS p w' τ' o ∧ np τ < np τ' ∧ tA τ' 18 (np τ) = s ∧ tA τ' 23 (np τ) = -4 ∧ tA τ' 25 (np τ) = -4 ∧ UT τ τ' o ∧ nR τ' = nR τ ∧ ∃ D, PRel p b w' τ' (SnR τ') (n + 1) (np τ') r (np τ) D ∧ BN τ τ' D
theorem own_no {q : Nat} (e24 : tA τ 24 q = -4) (e25 : tA τ 25 q = -4) (k : Nat) : own τ q k ↔ False := by
  have e24' : tA τ 24 q = -4 := e24
  have e25' : tA τ 25 q = -4 := e25
  unfold own
  rw [e24', e25']
  exact ⟨fun h => by omega, fun h => h.elim⟩
/-- a pattern without others within -/
theorem PN.leaf {n o r : Nat} {s : Int} {S S' : List Nat} {w' : CW} {τ' : TW} (h : PS p w τ o) (c : CF p [] S S' w τ w' τ') (rb : RB p w' τ') (en : np τ' = np τ + 1) (e16 : tI τ' 16 = np τ') (e5 : (np τ' : Int) ≤ tI τ' 5) (u : UT τ τ' o)
    (e18 : tA τ' 18 (np τ) = s) (e23 : tA τ' 23 (np τ) = -4) (e24 : tA τ' 24 (np τ) = -4) (e25 : tA τ' 25 (np τ) = -4) (e26 : tA τ' 26 (np τ) = 1) (hb : b < r) (h68 : fI w' 68 r = -1)
    (hd : (tA τ' 17 (np τ) = 0 ∧ tg w' r = 6) ∨ (tA τ' 17 (np τ) = 1 ∧ tg w' r = 7 ∧ (fI w' 69 r = tA τ' 19 (np τ) ∧ fI w' 70 r = tA τ' 20 (np τ) ∧ -999999999 ≤ tA τ' 19 (np τ) ∧ tA τ' 19 (np τ) ≤ tA τ' 20 (np τ) ∧ tA τ' 20 (np τ) ≤ 999999999 ∧ s = 0)) ∨ (tA τ' 17 (np τ) = 2 ∧ tg w' r = 11 ∧ (fI w' 75 r = tA τ' 19 (np τ) ∧ (tA τ' 19 (np τ) = 0 ∨ tA τ' 19 (np τ) = 1) ∧ s = 1)) ∨ (tA τ' 17 (np τ) = 3 ∧ tg w' r = 10 ∧ (fI w' 74 r = tA τ' 21 (np τ) ∧ s = 2)) ∨ (tA τ' 17 (np τ) = 4 ∧ tg w' r = 12 ∧ 3 ≤ s) ∨
      (tA τ' 17 (np τ) = 5 ∧ tg w' r = 8 ∧ 3 ≤ s ∧ tA τ' 22 (np τ) = -4 ∧ ∃ k : Nat, tA τ' 19 (np τ) = k ∧ k < nK τ' ∧ fR w' 71 r = kd w' p k ∧ PArr b w' (fR w' 72 r) 0))
    (hS : ∀ f, f ∈ S → f ≠ 0 ∧ f ≠ 1 ∧ f ≠ 19 ∧ f ≠ 20 ∧ (f < 15 ∨ 18 < f) := by decide) (hS' : ∀ f, f ∈ S' → (f < 10 ∨ 15 < f) ∧ (f < 27 ∨ 32 < f) := by decide) : PN p b n τ s o r (((np τ : Nat) : Int), 1) w' τ' := by
  have F := c.2.2.2.1
  have e32 := F 32 (fun y => by have := (hS' _ y).2; omega)
  have nm := h.2.2.1.on h.1.1 c (e := fun f hf => (hS f hf).2.2.2.2) (f := fun f hf => by have := (hS' f hf).2; omega)
  have no := own_no e24 e25
  have hPS : PS p w' τ' o := h.on c rb nm (fun r hr => by cases hr) e16 ⟨by omega, e5⟩ e32.1 u (hS := fun f hf => ⟨(hS f hf).1, (hS f hf).2.1, (hS f hf).2.2.1, (hS f hf).2.2.2.1⟩) (hS' := fun f hf => (hS' f hf).1)
  have e24' : tA τ' 24 (np τ) = -4 := e24
  have e25' : tA τ' 25 (np τ) = -4 := e25
  refine ⟨rfl, hPS, by omega, e18, e23, e25, u, nR_ft F (fun y => by have := (hS' _ y).2; omega), fun _ => False, ⟨Or.inl e24, Or.inl e25, Or.inl ⟨Or.inl e24, ?_⟩⟩, BN.ft F (fun f hf => by have := (hS' f hf).2; omega)⟩
  rw [if_pos e24', if_pos e25']
  have lf : ∀ k, (fun _ : Nat => False) k ↔ own τ' (np τ) k := fun k => (no k).symm
  refine ⟨by omega, hb, h68, fun k hk => ((no k).mp hk).elim, ?_⟩
  rcases hd with ⟨a1, a2⟩ | ⟨a1, a2, a3⟩ | ⟨a1, a2, a3⟩ | ⟨a1, a2, a3⟩ | ⟨a1, a2, a3⟩ | ⟨a1, a2, a3, a4, k, a5, a6, a7, a8⟩
  · exact Or.inl ⟨a1, a2, e26, lf⟩
  · exact Or.inr (Or.inl ⟨a1, a2, e26, ⟨a3.1, a3.2.1, a3.2.2.1, a3.2.2.2.1, a3.2.2.2.2.1, e18.trans a3.2.2.2.2.2⟩, lf⟩)
  · exact Or.inr (Or.inr (Or.inl ⟨a1, a2, e26, ⟨a3.1, a3.2.1, e18.trans a3.2.2⟩, lf⟩))
  · exact Or.inr (Or.inr (Or.inr (Or.inl ⟨a1, a2, e26, ⟨a3.1, e18.trans a3.2⟩, lf⟩)))
  · exact Or.inr (Or.inr (Or.inr (Or.inr (Or.inl ⟨a1, a2, e26, by have : tA τ' 18 (np τ) = s := e18; omega, lf⟩))))
  · exact Or.inr (Or.inr (Or.inr (Or.inr (Or.inr (Or.inl ⟨a1, a2, by have : tA τ' 18 (np τ) = s := e18; omega, k, 0, fun _ => 0, a5, a6, a7, a8, Or.inl rfl, ⟨fun _ => a4, fun z => by omega, fun i hi => by omega, fun z => by omega, fun i hi => by omega⟩, fun _ => e26, fun z => by omega, fun i hi => by omega, fun _ _ => False, fun i hi => by omega, fun n => ⟨fun z => z.elim, fun z => by
      rcases z with z | ⟨i, hi, _⟩
      · exact (no n).mp z
      · omega⟩, fun n hn => ((no n).mp hn).elim⟩)))))
end ZPS
