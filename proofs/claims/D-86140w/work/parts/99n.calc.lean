/-! a calculus of outcomes: both step on -/
section ZCalc
variable {p : Nat} {w : CW} {τ : TW} {α β α1 β1 : Type}
theorem br1 {c A B : Prop} (hc : c) (a : A) : (c → A) ∧ (¬ c → B) := ⟨fun _ => a, fun n => absurd hc n⟩
theorem br0 {c A B : Prop} (hc : ¬ c) (b : B) : (c → A) ∧ (¬ c → B) := ⟨fun y => absurd y hc, fun _ => b⟩
/-- numbers of places -/
theorem ixm {x : Int} {a R : Nat} (e : x = R) (h : a * R ≤ 1000000) : w32 ((a : Int) * x) = ((a * R : Nat) : Int) := by
  subst e
  have := Int.natCast_mul a R
  rw [w32_s (by omega) (by omega)]
  omega
theorem ixx {x y : Int} {m n : Nat} (ex : x = m) (ey : y = n) (h : m + n ≤ 1000000) : w32 (x + y) = ((m + n : Nat) : Int) := by
  subst ex
  subst ey
  rw [w32_s (by omega) (by omega)]
  omega
theorem ixa {x : Int} {a n : Nat} (e : x = n) (h : n + a ≤ 1000000) : w32 (x + (a : Int)) = ((n + a : Nat) : Int) := ixx e rfl h
theorem ixr {x : Int} {n : Nat} {k : Int} (e : x = n) (h : (n : Int) < k) : 0 ≤ x ∧ x < k := by omega
theorem Rm.le {a b : Int} (h : Rm a w τ) (hb : b ≤ a) : Rm b w τ := ⟨by have := h.1; omega, by have := h.2; omega⟩
theorem Rm.to {a b c : Int} {w' : CW} {τ' : TW} (h : Rm a w τ) (e1 : mu w' = mu w) (e2 : mz w' = mz w) (hp : pot w' τ' ≤ pot w τ + b) (hc : c ≤ a - b) : Rm c w' τ' := by
  unfold Rm at *
  rw [e1, e2]
  omega
theorem Dd.cs {h pl : Int} (D : Dd h pl τ) : tI τ 7 ≠ 0 ∨ (tI τ 7 = 0 ∧ tI τ 3 = 7) := by
  rcases D with ⟨a, b, c⟩ | ⟨a, b, c, q, -⟩
  · left
    have : tI τ 7 = h := a
    omega
  · exact Or.inr ⟨a, b⟩
theorem Dd.ns {h pl : Int} (D : Dd h pl τ) (h0 : tI τ 7 = 0) (c : Int) : ff_isSign c τ = 0 ∧ ff_isWord c τ = 0 ∧ tI τ 3 = 7 := by
  rcases D.cs with x | x
  · exact absurd h0 x
  · exact ⟨ff_s0 (fun y => by have : tI τ 3 = 5 := y.1; omega), ff_w0 (fun y => by have : tI τ 3 = 6 := y.1; omega), x.2⟩
/-- the reference is dead, or dies: it runs to its end -/
def DD (S' : List Nat) (h pl : Int) (tm : (β → TW → Prop) → Prop) (σ : TW) : Prop := ∃ σ' b', FT S' σ σ' ∧ tI σ' 5 = tI σ 5 ∧ tI σ' 1 = tI σ 1 ∧ Dd h pl σ' ∧ ∀ Q, Q b' σ' → tm Q
theorem DD.ret {S' : List Nat} {h pl : Int} {tm : (β → TW → Prop) → Prop} {b : β} (D : Dd h pl τ) (ht : ∀ Q, Q b τ → tm Q) : DD S' h pl tm τ := ⟨τ, b, FT.refl _ _, rfl, rfl, D, ht⟩
theorem DD.c {S' : List Nat} {h pl : Int} {tm tm' : (β → TW → Prop) → Prop} (ht : ∀ Q, tm' Q → tm Q) (k : DD S' h pl tm' τ) : DD S' h pl tm τ := by
  obtain ⟨σ', b', k1, k2, k3, k4, k5⟩ := k
  exact ⟨σ', b', k1, k2, k3, k4, fun Q hQ => ht Q (k5 Q hQ)⟩
theorem DD.bd0 {S' S1 : List Nat} {h pl : Int} {tm1 : (β1 → TW → Prop) → Prop} {tm : (β → TW → Prop) → Prop} {tm2 : β1 → TW → (β → TW → Prop) → Prop} (h1 : DD S1 h pl tm1 τ) (hT : ∀ Q b1 τ1, (∀ P : β1 → TW → Prop, P b1 τ1 → tm1 P) → tm2 b1 τ1 Q → tm Q)
    (h2 : ∀ b u, Dd h pl u → FT S1 τ u → DD S' h pl (tm2 b u) u) (hs : ∀ f, f ∈ S1 → f ∈ S' := by first | decide | exact fun f hf => hf | (intro f hf; cases hf; done)) : DD S' h pl tm τ := by
  obtain ⟨σ1, b1, k1, k2, k3, k4, k5⟩ := h1
  obtain ⟨σ2, b2, g1, g2, g3, g4, g5⟩ := h2 b1 σ1 k4 k1
  exact ⟨σ2, b2, (k1.mono hs).trans g1, g2.trans k2, g3.trans k3, g4, fun Q hQ => hT Q b1 σ1 k5 (g5 Q hQ)⟩
theorem DD.bd {S' S1 : List Nat} {h pl : Int} {tm1 : (β1 → TW → Prop) → Prop} {tm : (β → TW → Prop) → Prop} {tm2 : β1 → TW → (β → TW → Prop) → Prop} (h1 : DD S1 h pl tm1 τ) (hT : ∀ Q, tm1 (fun b u => tm2 b u Q) → tm Q)
    (h2 : ∀ b u, Dd h pl u → FT S1 τ u → DD S' h pl (tm2 b u) u) (hs : ∀ f, f ∈ S1 → f ∈ S' := by first | decide | exact fun f hf => hf | (intro f hf; cases hf; done)) : DD S' h pl tm τ :=
  DD.bd0 h1 (fun Q _ _ run k => hT Q (run _ k)) h2 hs
/-- the reference moves, alive or dead, before -/
theorem DD.pre {S' S1 : List Nat} {h pl : Int} {σ : TW} {tm tm' : (β → TW → Prop) → Prop} (F : FT S1 τ σ) (ht : ∀ Q, tm' Q → tm Q) (k : DD S' h pl tm' σ) (hs : ∀ f, f ∈ S1 → f ∈ S' := by first | decide | exact fun f hf => hf | (intro f hf; cases hf; done)) (h8 : ∀ f, f ∈ S1 → f ≠ 1 ∧ f ≠ 5 := by decide) : DD S' h pl tm τ := by
  obtain ⟨σ', b', k1, k2, k3, k4, k5⟩ := k
  exact ⟨σ', b', (F.mono hs).trans k1, k2.trans (F 5 (fun y => (h8 5 y).2 rfl)).1, k3.trans (F 1 (fun y => (h8 1 y).1 rfl)).1, k4, fun Q hQ => ht Q (k5 Q hQ)⟩
/-- by a call without an answer -/
theorem DD.bV {S' S1 : List Nat} {h pl : Int} {tm1 : (β1 → TW → Prop) → Prop} {tm : (β → TW → Prop) → Prop} {tm2 : TW → (β → TW → Prop) → Prop} (h1 : DD S1 h pl tm1 τ) (hT : ∀ Q, tm1 (fun _ u => tm2 u Q) → tm Q)
    (h2 : ∀ u, Dd h pl u → FT S1 τ u → DD S' h pl (tm2 u) u) (hs : ∀ f, f ∈ S1 → f ∈ S' := by first | decide | exact fun f hf => hf | (intro f hf; cases hf; done)) : DD S' h pl tm τ := DD.bd h1 hT (fun _ u => h2 u) hs
theorem DD.tw {S' S1 : List Nat} {h pl : Int} {tm : (β → TW → Prop) → Prop} {tm2 : TW → (β → TW → Prop) → Prop} (D : Dd h pl τ) (e : TW) (F : FT S1 τ e) (hT : ∀ Q, (∀ u, u = e → tm2 u Q) → tm Q)
    (h2 : ∀ u, u = e → Dd h pl u → FT S1 τ u → DD S' h pl (tm2 u) u) (hs : ∀ f, f ∈ S1 → f ∈ S' := by first | decide | exact fun f hf => hf | (intro f hf; cases hf; done)) (h8 : ∀ f, f ∈ S1 → 8 < f ∧ f ≠ 41 ∧ f ≠ 45 := by decide) : DD S' h pl tm τ := by
  obtain ⟨σ2, b2, g1, g2, g3, g4, g5⟩ := h2 e rfl (D.ft F h8) F
  refine ⟨σ2, b2, (F.mono hs).trans g1, g2.trans (F 5 (fun y => by have := h8 5 y; omega)).1, g3.trans (F 1 (fun y => by have := h8 1 y; omega)).1, g4, fun Q hQ => hT Q (fun u hu => ?_)⟩
  subst hu
  exact g5 Q hQ
theorem DD.mono {S' S1 : List Nat} {h pl : Int} {tm : (β → TW → Prop) → Prop} (k : DD S1 h pl tm τ) (hs : ∀ f, f ∈ S1 → f ∈ S' := by first | decide | exact fun f hf => hf | (intro f hf; cases hf; done)) : DD S' h pl tm τ := by
  obtain ⟨σ', b', k1, k2, k3, k4, k5⟩ := k
  exact ⟨σ', b', k1.mono hs, k2, k3, k4, k5⟩
/-- calls of the dead -/
theorem Dd.stop {e : Nat} {h pl k : Int} (D : Dd h pl τ) (hk : 1 ≤ k) : DD [7, 8] h pl (fun (Q : Unit → TW → Prop) => wpT (e + 2) 12 [ai k] τ (zqV (Q ()) zno)) τ := by
  obtain ⟨τ', ⟨a, b, c⟩, run⟩ := dd_stop (d := e) D hk
  exact ⟨τ', (), a, (a 5 (by decide)).1, (a 1 (by decide)).1, b, fun Q hQ => run _ hQ⟩
theorem Dd.must {e : Nat} {h pl k : Int} (D : Dd h pl τ) : DD [7, 8] h pl (fun (Q : Unit → TW → Prop) => wpT (e + 4) 20 [ai k] τ (zqV (Q ()) zno)) τ := by
  obtain ⟨τ', ⟨a, b, c⟩, run⟩ := dd_must (d := e) (c := k) D
  exact ⟨τ', (), a, (a 5 (by decide)).1, (a 1 (by decide)).1, b, fun Q hQ => run _ hQ⟩
theorem Dd.fails {e : Nat} {h pl k a : Int} (D : Dd h pl τ) (h0 : tI τ 7 ≠ 0) : DD [] h pl (fun (Q : Unit → TW → Prop) => wpT (e + 1) 13 [ai k, ai a] τ (zqV (Q ()) zno)) τ := by
  obtain ⟨τ', ⟨_, _, c⟩, run⟩ := sT_fails (d := e) (τ := τ) (k := k) (pl := a)
  have := c h0
  subst this
  exact ⟨τ', (), FT.refl _ _, rfl, rfl, D, fun Q hQ => run _ hQ⟩
theorem Dd.takes {e : Nat} {h pl k : Int} (D : Dd h pl τ) : ∀ Q, Q (.inl (some (ai 0))) τ → wpT (e + 2) 17 [ai k] τ Q := dd_takes D
theorem Dd.term {e : Nat} {h pl : Int} {t : Nat} {it : Int} (D : Dd h pl τ) (h7 : tI τ 7 = 0) (eit : it = t) : DD [7, 8] h pl (fun (Q : Unit → TW → Prop) => wpT (e + 7) 40 [ai it] τ (zqV (Q ()) zno)) τ := by
  subst eit
  obtain ⟨τ', ⟨a, b, c⟩, run⟩ := dd_term (e := e) (t := t) D h7
  exact ⟨τ', (), a, (a 5 (by decide)).1, (a 1 (by decide)).1, b, fun Q hQ => run _ hQ⟩
/-- the reference dies here -/
theorem RB.dstop {e : Nat} {k : Int} (h : RB p w τ) (hk : 1 ≤ k) : DD [7, 8] k (tI τ 5) (fun (Q : Unit → TW → Prop) => wpT (e + 2) 12 [ai k] τ (zqV (Q ()) zno)) τ := by
  obtain ⟨τ', ⟨a, b, c⟩, run⟩ := RB.stop (e := e) h hk
  exact ⟨τ', (), a, (a 5 (by decide)).1, (a 1 (by decide)).1, b, fun Q hQ => run _ hQ⟩
theorem RB.dfails {e : Nat} {k pl : Int} (h : RB p w τ) (hk : 1 ≤ k) : DD [7, 8] k pl (fun (Q : Unit → TW → Prop) => wpT (e + 1) 13 [ai k, ai pl] τ (zqV (Q ()) zno)) τ := by
  obtain ⟨τ', ⟨a, b, c⟩, run⟩ := RB.fails (e := e) (pl := pl) h hk
  exact ⟨τ', (), a, (a 5 (by decide)).1, (a 1 (by decide)).1, b, fun Q hQ => run _ hQ⟩
theorem RB.dmust {e : Nat} {c : Int} (h : RB p w τ) (hc : ff_isSign c τ = 0) : DD [7, 8] 2 (tI τ 5) (fun (Q : Unit → TW → Prop) => wpT (e + 6) 20 [ai c] τ (zqV (Q ()) zno)) τ := by
  obtain ⟨τ', ⟨a, b, c⟩, run⟩ := RB.must (e := e) h hc
  exact ⟨τ', (), a, (a 5 (by decide)).1, (a 1 (by decide)).1, b, fun Q hQ => run _ hQ⟩
/-- what stays, of the references up to b -/
def Frb (b : Nat) (T : List Nat) (w w' : CW) : Prop := cz w ≤ cz w' ∧ cu w ≤ cu w' ∧ w'.2.2.2.2.2.2.2.2 = w.2.2.2.2.2.2.2.2 ∧ (∀ r, r ≤ b → tg w' r = tg w r ∧ ln w' r = ln w r) ∧ ∀ r, r ≤ b → r ∉ T → ob w' r = ob w r
def CFb (p b : Nat) (T S S' : List Nat) (w : CW) (τ : TW) (w' : CW) (τ' : TW) : Prop := Frb b (p :: T) w w' ∧ PF S p w w' ∧ WF p w' ∧ FT S' τ τ' ∧ tI τ 5 ≤ tI τ' 5 ∧ tI τ' 1 = tI τ 1
/-- an outcome, of which is told what stays of the references up to b -/
def OUTb (p b : Nat) (T S S' : List Nat) (an at' : Int) (N : α → β → CW → TW → Prop) (cm : (α → CW → Prop) → (Nat → CW → Prop) → Prop) (tm : (β → TW → Prop) → Prop) (w : CW) (τ : TW) : Prop :=
  b ≤ cz w → ∃ w' τ' b', CFb p b T S S' w τ w' τ' ∧ (∀ Q, Q b' τ' → tm Q) ∧ ((∃ a, RB p w' τ' ∧ pot w' τ' ≤ pot w τ + an ∧ N a b' w' τ' ∧ ∀ Q X, Q a w' → cm Q X) ∨ (∃ h pl x, pot w' τ' ≤ pot w τ + at' ∧ Wr w' x h pl ∧ Dd h pl τ' ∧ ∀ Q X, X x w' → cm Q X))
theorem OUTb.go {T S S' : List Nat} {an at' : Int} {N : α → β → CW → TW → Prop} {cm : (α → CW → Prop) → (Nat → CW → Prop) → Prop} {tm : (β → TW → Prop) → Prop} (h : OUTb p (cz w) T S S' an at' N cm tm w τ) : OUT p T S S' an at' N cm tm w τ := h (Nat.le_refl _)
theorem CF.b {T S S' : List Nat} {w' : CW} {τ' : TW} (h : CF p T S S' w τ w' τ') : CFb p (cz w) T S S' w τ w' τ' := h
theorem CFb.trans {b b2 : Nat} {T S S' T2 S2 S2' : List Nat} {w' w'' : CW} {τ' τ'' : TW} (h : CFb p b T S S' w τ w' τ') (k : CFb p b2 T2 S2 S2' w' τ' w'' τ'') (hb : b ≤ b2) (hT : ∀ r, r ∈ T2 → r ∈ T ∨ b < r) (hS : ∀ f, f ∈ S2 → f ∈ S) (hS' : ∀ f, f ∈ S2' → f ∈ S') : CFb p b T S S' w τ w'' τ'' := by
  refine ⟨⟨Nat.le_trans h.1.1 k.1.1, Nat.le_trans h.1.2.1 k.1.2.1, k.1.2.2.1.trans h.1.2.2.1, fun r hr => ?_, fun r hr hn => ?_⟩, h.2.1.trans (k.2.1.mono hS), k.2.2.1, h.2.2.2.1.trans (k.2.2.2.1.mono hS'), Int.le_trans h.2.2.2.2.1 k.2.2.2.2.1, k.2.2.2.2.2.trans h.2.2.2.2.2⟩
  · have a := h.1.2.2.2.1 r hr
    have c := k.1.2.2.2.1 r (by omega)
    exact ⟨c.1.trans a.1, c.2.trans a.2⟩
  · rw [← h.1.2.2.2.2 r hr hn]
    refine k.1.2.2.2.2 r (by omega) (fun y => ?_)
    rcases List.mem_cons.mp y with z | z
    · exact hn (List.mem_cons.mpr (Or.inl z))
    · rcases hT r z with q | q
      · exact hn (List.mem_cons.mpr (Or.inr q))
      · omega
theorem CFb.mono {b b2 : Nat} {T S S' T2 S2 S2' : List Nat} {w' : CW} {τ' : TW} (k : CFb p b2 T2 S2 S2' w τ w' τ') (hb : b ≤ b2) (hT : ∀ r, r ∈ T2 → r ∈ T ∨ b < r) (hS : ∀ f, f ∈ S2 → f ∈ S) (hS' : ∀ f, f ∈ S2' → f ∈ S') : CFb p b T S S' w τ w' τ' := by
  refine ⟨⟨k.1.1, k.1.2.1, k.1.2.2.1, fun r hr => k.1.2.2.2.1 r (by omega), fun r hr hn => k.1.2.2.2.2 r (by omega) (fun y => ?_)⟩, k.2.1.mono hS, k.2.2.1, k.2.2.2.1.mono hS', k.2.2.2.2⟩
  rcases List.mem_cons.mp y with z | z
  · exact hn (List.mem_cons.mpr (Or.inl z))
  · rcases hT r z with q | q
    · exact hn (List.mem_cons.mpr (Or.inr q))
    · omega
theorem CFb.refl (W : WF p w) (b : Nat) (T S S' : List Nat) : CFb p b T S S' w τ w τ := ⟨⟨Nat.le_refl _, Nat.le_refl _, rfl, fun _ _ => ⟨rfl, rfl⟩, fun _ _ _ => rfl⟩, PF.refl _ _ _, W, FT.refl _ _, Int.le_refl _, rfl⟩
section rules
variable {b : Nat} {T S S' : List Nat} {a t : Int} {N : α → β → CW → TW → Prop} {cm : (α → CW → Prop) → (Nat → CW → Prop) → Prop} {tm : (β → TW → Prop) → Prop}
theorem OUTb.cc {cm' : (α → CW → Prop) → (Nat → CW → Prop) → Prop} (hc : ∀ Q X, cm' Q X → cm Q X) (h : OUTb p b T S S' a t N cm' tm w τ) : OUTb p b T S S' a t N cm tm w τ := by
  intro hb
  obtain ⟨w', τ', b', c, run, g⟩ := h hb
  refine ⟨w', τ', b', c, run, ?_⟩
  rcases g with ⟨v, g1, g2, g3, g4⟩ | ⟨hh, pl, x, g1, g2, g3, g4⟩
  · exact Or.inl ⟨v, g1, g2, g3, fun Q X q => hc Q X (g4 Q X q)⟩
  · exact Or.inr ⟨hh, pl, x, g1, g2, g3, fun Q X q => hc Q X (g4 Q X q)⟩
theorem OUTb.tt {tm' : (β → TW → Prop) → Prop} (ht : ∀ Q, tm' Q → tm Q) (h : OUTb p b T S S' a t N cm tm' w τ) : OUTb p b T S S' a t N cm tm w τ := by
  intro hb
  obtain ⟨w', τ', b', c, run, g⟩ := h hb
  exact ⟨w', τ', b', c, fun Q q => ht Q (run Q q), g⟩
theorem OUTb.ret {v : α} {v' : β} (h : RB p w τ) (hN : N v v' w τ) (hc : ∀ Q X, Q v w → cm Q X) (ht : ∀ Q, Q v' τ → tm Q) (ha : 0 ≤ a := by decide) : OUTb p b T S S' a t N cm tm w τ :=
  fun _ => ⟨w, τ, v', CFb.refl h.1 _ _ _ _, ht, Or.inl ⟨v, h, by omega, hN, hc⟩⟩
theorem OUTb.thr {how pl : Int} (h : RB p w τ) (hc : ∀ Q X, X (cz w + 1) (wrW w how pl) → cm Q X) (hd : DD S' how pl tm τ) (ha : 13 ≤ t := by decide) : OUTb p b T S S' a t N cm tm w τ := by
  intro hb
  obtain ⟨σ', b', k1, k2, k3, k4, k5⟩ := hd
  have st := wrW_st h.1 [] S how pl
  refine ⟨wrW w how pl, σ', b', ⟨⟨st.1.1, st.1.2.1, st.1.2.2.1, fun r hr => st.1.2.2.2.1 r (by omega), fun r hr hn => (wrW_fr (p :: T) w how pl).2.2.2.2 r (by omega) hn⟩, st.2.1, st.2.2.1, k1, by rw [k2]; exact Int.le_refl _, k3⟩, k5, Or.inr ⟨how, pl, cz w + 1, ?_, wrW_wr _ _ _, k4, hc⟩⟩
  have e1 : cz (wrW w how pl) = cz w + 1 := rfl
  have e2 : cu (wrW w how pl) = cu w + 8 := rfl
  unfold pot zm
  have k2' : tI σ' 5 = tI τ 5 := k2
  have k3' : tI σ' 1 = tI τ 1 := k3
  rw [k2', k3', e1, e2]
  omega
/-- a call of both -/
theorem OUTb.bd00 {T1 S1 S1' : List Nat} {A a1 t1 : Int} {N1 : α1 → β1 → CW → TW → Prop} {cm1 : (α1 → CW → Prop) → (Nat → CW → Prop) → Prop} {tm1 : (β1 → TW → Prop) → Prop} {cm2 : α1 → CW → (α → CW → Prop) → (Nat → CW → Prop) → Prop} {tm2 : β1 → TW → (β → TW → Prop) → Prop} (hR : Rm A w τ)
    (h1 : OUT p T1 S1 S1' a1 t1 N1 cm1 tm1 w τ) (hC : ∀ Q X v1 w1, (∀ P : α1 → CW → Prop, P v1 w1 → cm1 P X) → cm2 v1 w1 Q X → cm Q X) (hX : ∀ Q X, (∀ P : α1 → CW → Prop, cm1 P X) → cm Q X) (hT : ∀ Q b1 τ1, (∀ P : β1 → TW → Prop, P b1 τ1 → tm1 P) → tm2 b1 τ1 Q → tm Q)
    (h2 : ∀ v v' u σ, RB p u σ → N1 v v' u σ → CF p T1 S1 S1' w τ u σ → Rm (A - a1) u σ → OUTb p b T S S' (a - a1) (t - a1) N (cm2 v u) (tm2 v' σ) u σ)
    (hd : ∀ h pl v' σ, Dd h pl σ → FT S1' τ σ → DD S' h pl (tm2 v' σ) σ)
    (hTT : ∀ r, r ∈ T1 → r ∈ T ∨ b < r := by first | exact fun r hr => Or.inl hr | (intro r hr; cases hr)) (hS : ∀ f, f ∈ S1 → f ∈ S := by first | decide | exact fun f hf => hf | (intro f hf; cases hf; done)) (hS' : ∀ f, f ∈ S1' → f ∈ S' := by first | decide | exact fun f hf => hf | (intro f hf; cases hf; done)) (ht : t1 ≤ t := by decide) : OUTb p b T S S' a t N cm tm w τ := by
  intro hb
  obtain ⟨w1, τ1, b1, c1, run1, h⟩ := h1
  have c1' : CFb p b T S S' w τ w1 τ1 := c1.b.mono hb hTT hS hS'
  rcases h with ⟨v1, rb1, p1, n1, k1⟩ | ⟨hh, pl, x, p1, wr1, dd1, k1⟩
  · obtain ⟨w2, τ2, b2, c2, run2, g⟩ := h2 v1 b1 w1 τ1 rb1 n1 c1 (hR.to c1.1.emu c1.1.emz p1 (Int.le_refl _)) (Nat.le_trans hb c1.1.1)
    refine ⟨w2, τ2, b2, c1'.trans c2 (Nat.le_refl _) (fun r hr => Or.inl hr) (fun f hf => hf) (fun f hf => hf), fun Q hQ => hT _ b1 τ1 run1 (run2 _ hQ), ?_⟩
    rcases g with ⟨v2, rb2, p2, n2, k2⟩ | ⟨hh, pl, x, p2, wr2, dd2, k2⟩
    · exact Or.inl ⟨v2, rb2, by omega, n2, fun Q X hQ => hC _ _ v1 w1 (fun P hP => k1 P X hP) (k2 _ _ hQ)⟩
    · exact Or.inr ⟨hh, pl, x, by omega, wr2, dd2, fun Q X hx => hC _ _ v1 w1 (fun P hP => k1 P X hP) (k2 _ _ hx)⟩
  · obtain ⟨σ', b', f1, f2, f3, dd2, run2⟩ := hd hh pl b1 τ1 dd1 c1.2.2.2.1
    refine ⟨w1, σ', b', ⟨c1'.1, c1'.2.1, c1'.2.2.1, c1'.2.2.2.1.trans f1, by rw [f2]; exact c1'.2.2.2.2.1, by rw [f3]; exact c1'.2.2.2.2.2⟩, fun Q hQ => hT _ b1 τ1 run1 (run2 _ hQ), Or.inr ⟨hh, pl, x, ?_, wr1, dd2, fun Q X hx => hX _ _ (fun P => k1 P X hx)⟩⟩
    have f2' : tI σ' 5 = tI τ1 5 := f2
    have f3' : tI σ' 1 = tI τ1 1 := f3
    unfold pot at p1 ⊢
    rw [f2', f3']
    omega
theorem OUTb.bd0 {T1 S1 S1' : List Nat} {A a1 t1 : Int} {N1 : α1 → β1 → CW → TW → Prop} {cm1 : (α1 → CW → Prop) → (Nat → CW → Prop) → Prop} {tm1 : (β1 → TW → Prop) → Prop} {cm2 : α1 → CW → (α → CW → Prop) → (Nat → CW → Prop) → Prop} {tm2 : β1 → TW → (β → TW → Prop) → Prop} (hR : Rm A w τ)
    (h1 : OUT p T1 S1 S1' a1 t1 N1 cm1 tm1 w τ) (hC : ∀ Q X, cm1 (fun v u => cm2 v u Q X) X → cm Q X) (hT : ∀ Q b1 τ1, (∀ P : β1 → TW → Prop, P b1 τ1 → tm1 P) → tm2 b1 τ1 Q → tm Q)
    (h2 : ∀ v v' u σ, RB p u σ → N1 v v' u σ → CF p T1 S1 S1' w τ u σ → Rm (A - a1) u σ → OUTb p b T S S' (a - a1) (t - a1) N (cm2 v u) (tm2 v' σ) u σ)
    (hd : ∀ h pl v' σ, Dd h pl σ → FT S1' τ σ → DD S' h pl (tm2 v' σ) σ)
    (hTT : ∀ r, r ∈ T1 → r ∈ T ∨ b < r := by first | exact fun r hr => Or.inl hr | (intro r hr; cases hr)) (hS : ∀ f, f ∈ S1 → f ∈ S := by first | decide | exact fun f hf => hf | (intro f hf; cases hf; done)) (hS' : ∀ f, f ∈ S1' → f ∈ S' := by first | decide | exact fun f hf => hf | (intro f hf; cases hf; done)) (ht : t1 ≤ t := by decide) : OUTb p b T S S' a t N cm tm w τ :=
  OUTb.bd00 hR h1 (fun Q X _ _ run k => hC Q X (run _ k)) (fun Q X k => hC Q X (k _)) hT h2 hd hTT hS hS' ht
theorem OUTb.bd {T1 S1 S1' : List Nat} {A a1 t1 : Int} {N1 : α1 → β1 → CW → TW → Prop} {cm1 : (α1 → CW → Prop) → (Nat → CW → Prop) → Prop} {tm1 : (β1 → TW → Prop) → Prop} {cm2 : α1 → CW → (α → CW → Prop) → (Nat → CW → Prop) → Prop} {tm2 : β1 → TW → (β → TW → Prop) → Prop} (hR : Rm A w τ)
    (h1 : OUT p T1 S1 S1' a1 t1 N1 cm1 tm1 w τ) (hC : ∀ Q X, cm1 (fun v u => cm2 v u Q X) X → cm Q X) (hT : ∀ Q, tm1 (fun v σ => tm2 v σ Q) → tm Q)
    (h2 : ∀ v v' u σ, RB p u σ → N1 v v' u σ → CF p T1 S1 S1' w τ u σ → Rm (A - a1) u σ → OUTb p b T S S' (a - a1) (t - a1) N (cm2 v u) (tm2 v' σ) u σ)
    (hd : ∀ h pl v' σ, Dd h pl σ → FT S1' τ σ → DD S' h pl (tm2 v' σ) σ)
    (hTT : ∀ r, r ∈ T1 → r ∈ T ∨ b < r := by first | exact fun r hr => Or.inl hr | (intro r hr; cases hr)) (hS : ∀ f, f ∈ S1 → f ∈ S := by first | decide | exact fun f hf => hf | (intro f hf; cases hf; done)) (hS' : ∀ f, f ∈ S1' → f ∈ S' := by first | decide | exact fun f hf => hf | (intro f hf; cases hf; done)) (ht : t1 ≤ t := by decide) : OUTb p b T S S' a t N cm tm w τ :=
  OUTb.bd0 hR h1 hC (fun Q _ _ run k => hT Q (run _ k)) h2 hd hTT hS hS' ht
theorem OUTb.bVV {T1 S1 S1' : List Nat} {A a1 t1 : Int} {N1 : α1 → β1 → CW → TW → Prop} {cm1 : (α1 → CW → Prop) → (Nat → CW → Prop) → Prop} {tm1 : (β1 → TW → Prop) → Prop} {cm2 : CW → (α → CW → Prop) → (Nat → CW → Prop) → Prop} {tm2 : TW → (β → TW → Prop) → Prop} (hR : Rm A w τ)
    (h1 : OUT p T1 S1 S1' a1 t1 N1 cm1 tm1 w τ) (hC : ∀ Q X, cm1 (fun _ u => cm2 u Q X) X → cm Q X) (hT : ∀ Q, tm1 (fun _ σ => tm2 σ Q) → tm Q)
    (h2 : ∀ v v' u σ, RB p u σ → N1 v v' u σ → CF p T1 S1 S1' w τ u σ → Rm (A - a1) u σ → OUTb p b T S S' (a - a1) (t - a1) N (cm2 u) (tm2 σ) u σ)
    (hd : ∀ h pl σ, Dd h pl σ → FT S1' τ σ → DD S' h pl (tm2 σ) σ)
    (hTT : ∀ r, r ∈ T1 → r ∈ T ∨ b < r := by first | exact fun r hr => Or.inl hr | (intro r hr; cases hr)) (hS : ∀ f, f ∈ S1 → f ∈ S := by first | decide | exact fun f hf => hf | (intro f hf; cases hf; done)) (hS' : ∀ f, f ∈ S1' → f ∈ S' := by first | decide | exact fun f hf => hf | (intro f hf; cases hf; done)) (ht : t1 ≤ t := by decide) : OUTb p b T S S' a t N cm tm w τ :=
  OUTb.bd hR h1 hC hT h2 (fun h pl _ σ => hd h pl σ) hTT hS hS' ht
theorem OUTb.bIV {T1 S1 S1' : List Nat} {A a1 t1 : Int} {N1 : α1 → β1 → CW → TW → Prop} {cm1 : (α1 → CW → Prop) → (Nat → CW → Prop) → Prop} {tm1 : (β1 → TW → Prop) → Prop} {cm2 : α1 → CW → (α → CW → Prop) → (Nat → CW → Prop) → Prop} {tm2 : TW → (β → TW → Prop) → Prop} (hR : Rm A w τ)
    (h1 : OUT p T1 S1 S1' a1 t1 N1 cm1 tm1 w τ) (hC : ∀ Q X, cm1 (fun v u => cm2 v u Q X) X → cm Q X) (hT : ∀ Q, tm1 (fun _ σ => tm2 σ Q) → tm Q)
    (h2 : ∀ v v' u σ, RB p u σ → N1 v v' u σ → CF p T1 S1 S1' w τ u σ → Rm (A - a1) u σ → OUTb p b T S S' (a - a1) (t - a1) N (cm2 v u) (tm2 σ) u σ)
    (hd : ∀ h pl σ, Dd h pl σ → FT S1' τ σ → DD S' h pl (tm2 σ) σ)
    (hTT : ∀ r, r ∈ T1 → r ∈ T ∨ b < r := by first | exact fun r hr => Or.inl hr | (intro r hr; cases hr)) (hS : ∀ f, f ∈ S1 → f ∈ S := by first | decide | exact fun f hf => hf | (intro f hf; cases hf; done)) (hS' : ∀ f, f ∈ S1' → f ∈ S' := by first | decide | exact fun f hf => hf | (intro f hf; cases hf; done)) (ht : t1 ≤ t := by decide) : OUTb p b T S S' a t N cm tm w τ :=
  OUTb.bd hR h1 hC hT h2 (fun h pl _ σ => hd h pl σ) hTT hS hS' ht
theorem OUTb.bVI {T1 S1 S1' : List Nat} {A a1 t1 : Int} {N1 : α1 → β1 → CW → TW → Prop} {cm1 : (α1 → CW → Prop) → (Nat → CW → Prop) → Prop} {tm1 : (β1 → TW → Prop) → Prop} {cm2 : CW → (α → CW → Prop) → (Nat → CW → Prop) → Prop} {tm2 : β1 → TW → (β → TW → Prop) → Prop} (hR : Rm A w τ)
    (h1 : OUT p T1 S1 S1' a1 t1 N1 cm1 tm1 w τ) (hC : ∀ Q X, cm1 (fun _ u => cm2 u Q X) X → cm Q X) (hT : ∀ Q, tm1 (fun v σ => tm2 v σ Q) → tm Q)
    (h2 : ∀ v v' u σ, RB p u σ → N1 v v' u σ → CF p T1 S1 S1' w τ u σ → Rm (A - a1) u σ → OUTb p b T S S' (a - a1) (t - a1) N (cm2 u) (tm2 v' σ) u σ)
    (hd : ∀ h pl v' σ, Dd h pl σ → FT S1' τ σ → DD S' h pl (tm2 v' σ) σ)
    (hTT : ∀ r, r ∈ T1 → r ∈ T ∨ b < r := by first | exact fun r hr => Or.inl hr | (intro r hr; cases hr)) (hS : ∀ f, f ∈ S1 → f ∈ S := by first | decide | exact fun f hf => hf | (intro f hf; cases hf; done)) (hS' : ∀ f, f ∈ S1' → f ∈ S' := by first | decide | exact fun f hf => hf | (intro f hf; cases hf; done)) (ht : t1 ≤ t := by decide) : OUTb p b T S S' a t N cm tm w τ :=
  OUTb.bd hR h1 hC hT h2 hd hTT hS hS' ht
/-- the reference writes -/
theorem OUTb.tw {S1 : List Nat} {A : Int} {tm2 : TW → (β → TW → Prop) → Prop} (hR : Rm A w τ) (h : RB p w τ) (e : TW) (F : FT S1 τ e) (hT : ∀ Q, (∀ u, u = e → tm2 u Q) → tm Q)
    (h2 : ∀ u, u = e → RB p w u → FT S1 τ u → Rm A w u → OUTb p b T S S' a t N cm (tm2 u) w u) (hs : ∀ f, f ∈ S1 → f ∈ S' := by first | decide | exact fun f hf => hf | (intro f hf; cases hf; done)) (h8 : ∀ f, f ∈ S1 → 8 < f ∧ f ≠ 41 ∧ f ≠ 45 := by decide) : OUTb p b T S S' a t N cm tm w τ := by
  intro hb
  have e5 : tI e 5 = tI τ 5 := (F 5 (fun y => by have := h8 5 y; omega)).1
  have e1 : tI e 1 = tI τ 1 := (F 1 (fun y => by have := h8 1 y; omega)).1
  have hp : pot w e = pot w τ := by unfold pot; rw [e5, e1]
  obtain ⟨w', τ', b', c, run, g⟩ := h2 e rfl (h.ft F h8) F (by unfold Rm at *; rw [hp]; exact hR) hb
  refine ⟨w', τ', b', ⟨c.1, c.2.1, c.2.2.1, (F.mono hs).trans c.2.2.2.1, by have := c.2.2.2.2.1; omega, c.2.2.2.2.2.trans e1⟩, fun Q q => hT Q (fun u hu => by subst hu; exact run Q q), ?_⟩
  rw [hp] at g
  exact g
/-- the component writes -/
theorem OUTb.cw {T1 S1 : List Nat} {A k : Int} {cm2 : CW → (α → CW → Prop) → (Nat → CW → Prop) → Prop} (hR : Rm A w τ) (h : RB p w τ) (e : CW) (hF : Fr (p :: T1) w e) (hP : PF S1 p w e) (hW : WF p e) (hk : zm e ≤ zm w + k) (h0 : 0 ≤ k) (hC : ∀ Q X, (∀ u, u = e → cm2 u Q X) → cm Q X)
    (hT : ∀ r, r ∈ T1 → (r ∈ T ∨ b < r) ∧ p ≤ r ∧ (cz w < r ∨ (tg w r ≠ 101 ∧ r ≤ cz w)))
    (h2 : ∀ u, u = e → RB p u τ → CF p T1 S1 [] w τ u τ → Rm (A - k) u τ → OUTb p b T S S' (a - k) (t - k) N (cm2 u) tm u τ) (hS : ∀ f, f ∈ S1 → f ∈ S := by first | decide | exact fun f hf => hf | (intro f hf; cases hf; done)) (h7 : ∀ f, f ∈ S1 → f < 7 ∨ 14 < f := by decide) : OUTb p b T S S' a t N cm tm w τ := by
  intro hb
  have hp : pot e τ ≤ pot w τ + k := by unfold pot; omega
  have c1 : CF p T1 S1 [] w τ e τ := ⟨hF, hP, hW, FT.refl _ _, Int.le_refl _, rfl⟩
  obtain ⟨w', τ', b', c, run, g⟩ := h2 e rfl (h.st hF hP hW h7 (fun r hr => (hT r hr).2)) c1 (hR.to hF.emu hF.emz hp (Int.le_refl _)) (Nat.le_trans hb hF.1)
  have cT : CFb p b T S S' w τ e τ := c1.b.mono hb (fun r hr => (hT r hr).1) hS (fun f hf => by cases hf)
  refine ⟨w', τ', b', cT.trans c (Nat.le_refl _) (fun r hr => Or.inl hr) (fun f hf => hf) (fun f hf => hf), run, ?_⟩
  have st : ∀ Q X, cm2 e Q X → cm Q X := fun Q X q => hC Q X (fun u hu => by subst hu; exact q)
  rcases g with ⟨v, g1, g2, g3, g4⟩ | ⟨hh, pl, x, g1, g2, g3, g4⟩
  · exact Or.inl ⟨v, g1, by omega, g3, fun Q X q => st Q X (g4 Q X q)⟩
  · exact Or.inr ⟨hh, pl, x, by omega, g2, g3, fun Q X q => st Q X (g4 Q X q)⟩
/-- one store into an object or a row that is none of the LetterPost's own -/
theorem OUTb.wo {A : Int} {r : Nat} {cm2 : CW → (α → CW → Prop) → (Nat → CW → Prop) → Prop} (hR : Rm A w τ) (h : RB p w τ) (e : CW) (hF : Fr [r] w e) (hP : PF [] p w e) (hW : WF p e) (hz : cz e = cz w ∧ cu e = cu w) (hC : ∀ Q X, (∀ u, u = e → cm2 u Q X) → cm Q X)
    (hr : p < r ∧ tg w r ≠ 101 ∧ tg w r ≠ 0) (hT : r ∈ T ∨ b < r)
    (h2 : ∀ u, u = e → RB p u τ → CF p [r] [] [] w τ u τ → Rm A u τ → OUTb p b T S S' a t N (cm2 u) tm u τ) : OUTb p b T S S' a t N cm tm w τ := by
  have hz2 := h.1.le hr.2.2
  refine OUTb.cw (T1 := [r]) (S1 := []) (k := 0) hR h e (hF.mono (fun x hx => Or.inl (List.mem_cons.mpr (Or.inr hx)))) hP hW (by unfold zm; rw [hz.1, hz.2]; omega) (Int.le_refl _) hC (fun x hx => ?_) (fun u hu rb c q => ?_)
  · rw [List.mem_singleton.mp hx]
    exact ⟨hT, by omega, Or.inr ⟨hr.2.1, hz2⟩⟩
  · have := h2 u hu rb c (by rw [show A = A - 0 by omega]; exact q)
    rw [show a - 0 = a by omega, show t - 0 = t by omega]
    exact this
theorem OUTb.le {a' t' : Int} (h : OUTb p b T S S' a' t' N cm tm w τ) (ha : a' ≤ a := by decide) (ht : t' ≤ t := by decide) : OUTb p b T S S' a t N cm tm w τ := by
  intro hb
  obtain ⟨w', τ', b', c, run, g⟩ := h hb
  refine ⟨w', τ', b', c, run, ?_⟩
  rcases g with ⟨v, g1, g2, g3, g4⟩ | ⟨hh, pl, x, g1, g2, g3, g4⟩
  · exact Or.inl ⟨v, g1, by omega, g3, g4⟩
  · exact Or.inr ⟨hh, pl, x, by omega, g2, g3, g4⟩
/-- new objects -/
theorem OUTb.nw {A k : Int} {A0 B0 : Nat} {w' : CW} {cm' : (α → CW → Prop) → (Nat → CW → Prop) → Prop} (hR : Rm A w τ) (h : RB p w τ) (hF : Fr [] w w') (hW : WF p w') (hz : cz w' = cz w + A0) (hu : cu w' = cu w + B0) (hk : (B0 + 5 * A0 : Nat) ≤ k) (hC : ∀ Q X, cm' Q X → cm Q X)
    (h2 : RB p w' τ → CF p [] [] [] w τ w' τ → Rm (A - k) w' τ → OUTb p b T S S' (a - k) (t - k) N cm' tm w' τ) : OUTb p b T S S' a t N cm tm w τ := by
  refine OUTb.cw (T1 := []) (S1 := []) (k := k) hR h w' (hF.mono (fun r hr => by cases hr)) (PF.of hF h.1.pz (by simp)) hW (by unfold zm; rw [hz, hu]; omega) (by omega) (cm2 := fun u Q X => u = w' → cm' Q X) (fun Q X q => hC Q X (q w' rfl rfl)) (fun r hr => by cases hr) (fun u hu rb c r => ?_)
  · subst hu
    exact OUTb.cc (fun Q X q _ => q) (h2 rb c r)
/-- the component moves -/
theorem OUTb.cM {T1 S1 : List Nat} {A k : Int} {w' : CW} {cm' : (α → CW → Prop) → (Nat → CW → Prop) → Prop} (hR : Rm A w τ) (h : RB p w τ) (hF : Fr (p :: T1) w w') (hP : PF S1 p w w') (hW : WF p w') (hk : zm w' ≤ zm w + k) (h0 : 0 ≤ k) (hC : ∀ Q X, cm' Q X → cm Q X)
    (hT : ∀ r, r ∈ T1 → (r ∈ T ∨ b < r) ∧ p ≤ r ∧ (cz w < r ∨ (tg w r ≠ 101 ∧ r ≤ cz w)))
    (h2 : RB p w' τ → CF p T1 S1 [] w τ w' τ → Rm (A - k) w' τ → OUTb p b T S S' (a - k) (t - k) N cm' tm w' τ) (hS : ∀ f, f ∈ S1 → f ∈ S := by first | decide | exact fun f hf => hf | (intro f hf; cases hf; done)) (h7 : ∀ f, f ∈ S1 → f < 7 ∨ 14 < f := by decide) : OUTb p b T S S' a t N cm tm w τ := by
  refine OUTb.cw (T1 := T1) (S1 := S1) (k := k) hR h w' hF hP hW hk h0 (cm2 := fun u Q X => u = w' → cm' Q X) (fun Q X q => hC Q X (q w' rfl rfl)) hT (fun u hu rb c r => ?_) hS h7
  subst hu
  exact OUTb.cc (fun Q X q _ => q) (h2 rb c r)
/-- the reference moves -/
theorem OUTb.tM {S1 : List Nat} {A : Int} {τ' : TW} {tm' : (β → TW → Prop) → Prop} (hR : Rm A w τ) (h : RB p w τ) (F : FT S1 τ τ') (hT : ∀ Q, tm' Q → tm Q)
    (h2 : RB p w τ' → Rm A w τ' → OUTb p b T S S' a t N cm tm' w τ') (hs : ∀ f, f ∈ S1 → f ∈ S' := by first | decide | exact fun f hf => hf | (intro f hf; cases hf; done)) (h8 : ∀ f, f ∈ S1 → 8 < f ∧ f ≠ 41 ∧ f ≠ 45 := by decide) : OUTb p b T S S' a t N cm tm w τ := by
  refine OUTb.tw (S1 := S1) (tm2 := fun u Q => u = τ' → tm' Q) hR h τ' F (fun Q q => hT Q (q τ' rfl rfl)) (fun u hu rb F1 r => ?_) hs h8
  subst hu
  exact OUTb.tt (fun Q q _ => q) (h2 rb r)
/-- within a loop of the component's: I is the loop, L its law -/
def cmG {ι : Type} (L : (α → CW → Prop) → (Nat → CW → Prop) → ι → Prop) (F : (α → CW → Prop) → (Nat → CW → Prop) → ι → Prop) : (α → CW → Prop) → (Nat → CW → Prop) → Prop := fun Q X => ∀ I, L Q X I → F Q X I
theorem OUTb.kT {ι : Type} {L F F' : (α → CW → Prop) → (Nat → CW → Prop) → ι → Prop} (hc : ∀ Q X I, L Q X I → F' Q X I → F Q X I) (h : OUTb p b T S S' a t N (cmG L F') tm w τ) : OUTb p b T S S' a t N (cmG L F) tm w τ :=
  OUTb.cc (fun Q X k I l => hc Q X I l (k I l)) h
/-- out of the loop -/
theorem OUTb.kO {ι : Type} {L : (α → CW → Prop) → (Nat → CW → Prop) → ι → Prop} (h : OUTb p b T S S' a t N cm tm w τ) : OUTb p b T S S' a t N (cmG L (fun Q X _ => cm Q X)) tm w τ :=
  OUTb.cc (fun Q X k I _ => k) h
theorem OUTb.kW {ι : Type} {L F : (α → CW → Prop) → (Nat → CW → Prop) → ι → Prop} {F2 : CW → (α → CW → Prop) → (Nat → CW → Prop) → ι → Prop} {A : Int} {r : Nat} (hR : Rm A w τ) (h : RB p w τ) (e : CW) (hF : Fr [r] w e) (hP : PF [] p w e) (hW : WF p e) (hz : cz e = cz w ∧ cu e = cu w) (hC : ∀ Q X I, L Q X I → (∀ u, u = e → F2 u Q X I) → F Q X I)
    (hr : p < r ∧ tg w r ≠ 101 ∧ tg w r ≠ 0) (hT : r ∈ T ∨ b < r)
    (h2 : ∀ u, u = e → RB p u τ → CF p [r] [] [] w τ u τ → Rm A u τ → OUTb p b T S S' a t N (cmG L (F2 u)) tm u τ) : OUTb p b T S S' a t N (cmG L F) tm w τ :=
  OUTb.wo (cm2 := fun u => cmG L (F2 u)) hR h e hF hP hW hz (fun Q X k I l => hC Q X I l (fun u hu => k u hu I l)) hr hT h2
end rules
/-- what uses up a token goes on -/
theorem OUT.more {T S S' : List Nat} {an at' : Int} {N : α → β → CW → TW → Prop} {cm : (α → CW → Prop) → (Nat → CW → Prop) → Prop} {tm : (β → TW → Prop) → Prop} (h : OUT p T S S' an at' N cm tm w τ) (ha : an < 0) : OUT p T S S' an at' (fun v v' u σ => N v v' u σ ∧ tI τ 5 + 1 ≤ tI σ 5) cm tm w τ := by
  obtain ⟨w', τ', b', hc, run, g⟩ := h
  refine ⟨w', τ', b', hc, run, ?_⟩
  rcases g with ⟨v, rb, hp, n, k⟩ | g
  · refine Or.inl ⟨v, rb, hp, ⟨n, ?_⟩, k⟩
    have z1 := hc.1.1
    have z2 := hc.1.2.1
    have z3 := hc.2.2.2.2.2
    unfold pot zm at hp
    rw [z3] at hp
    have e1 : tI τ' 5 = tI τ' 5 := rfl
    have e2 : tI τ 5 = tI τ 5 := rfl
    omega
  · exact Or.inr g
/-- next: the place goes on -/
theorem OUT.nx1 {d e : Nat} (h : RB p w τ) (h0 : tI τ 3 ≠ 0) (hR : Rm 100 w τ) : OUT p [] [9, 10, 11, 12, 13, 14] [2, 3, 4, 5, 6] (-5900) (-5900) (fun (_ : Unit) (_ : Unit) _ τ' => tI τ 5 + 1 ≤ tI τ' 5) (fun Q X => wpC p (d + 12) 4 [ar p] w (zqV (Q ()) X)) (fun Q => wpT (e + 4) 4 [] τ (zqV (Q ()) zno)) w τ := by
  obtain ⟨w', τ', hc, hp, run, g⟩ := nx (d := d) (e := e) (T := []) (S := [9, 10, 11, 12, 13, 14]) (S' := [2, 3, 4, 5, 6]) h h0 (fun f hf => hf) (fun f hf => hf) hR
  refine ⟨w', τ', (), hc, fun Q hQ => run _ hQ, ?_⟩
  rcases g with ⟨rb, k⟩ | ⟨h, pl, x, wr, dd, k⟩
  · refine Or.inl ⟨(), rb, hp, ?_, fun Q X hQ => k _ hQ⟩
    have z1 := hc.1.1
    have z2 := hc.1.2.1
    have z3 := hc.2.2.2.2.2
    unfold pot zm at hp
    rw [z3] at hp
    have e1 : tI τ' 5 = tI τ' 5 := rfl
    have e2 : tI τ 5 = tI τ 5 := rfl
    omega
  · exact Or.inr ⟨h, pl, x, hp, wr, dd, fun Q X hX => k _ hX⟩
/-- a need that is not met, at a place told otherwise -/
theorem needNoP {d : Nat} {v how pl pl' : Int} (hp : pl' = pl) (hv : v = 0) (hm : cz w + 1 ≤ mz w ∧ cu w + 8 ≤ mu w) {Q : ZRes → CW → Prop} (hQ : Q (.inr (cz w + 1)) (wrW w how pl)) : wpC p (d + 4) 10 [ar p, ai v, ai how, ai pl'] w Q := by
  subst hp
  exact sC_needNo hv hm hQ
theorem RB.wantNo {d : Nat} (h : RB p w τ) {v : Int} (hv : v = 0) (hm : cz w + 1 ≤ mz w ∧ cu w + 8 ≤ mu w) {Q : ZRes → CW → Prop} (hQ : Q (.inr (cz w + 1)) (wrW w 2 (tI τ 5))) : wpC p (d + 5) 14 [ar p, ai v] w Q := sC_wantNo hv hm (by rw [h.pl]; exact hQ)
theorem RB.needNo {d : Nat} (h : RB p w τ) {v how : Int} (hv : v = 0) (hm : cz w + 1 ≤ mz w ∧ cu w + 8 ≤ mu w) {Q : ZRes → CW → Prop} (hQ : Q (.inr (cz w + 1)) (wrW w how (tI τ 5))) : wpC p (d + 4) 10 [ar p, ai v, ai how, ai (fI w 11 p)] w Q := sC_needNo hv hm (by rw [h.pl]; exact hQ)
theorem wnB.ft {S : List Nat} {τ' : TW} (F : FT S τ τ') (hS : ∀ f, f ∈ S → f ≠ 27 ∧ f ≠ 30 ∧ f ≠ 31) (n : Nat) : wnB τ' n ↔ wnB τ n := by
  have er : nR τ' = nR τ := by unfold nR; rw [(F 27 (fun y => (hS _ y).1 rfl)).1]
  unfold wnB
  rw [er, (F 31 (fun y => (hS _ y).2.2 rfl)).1, (F 30 (fun y => (hS _ y).2.1 rfl)).2]
theorem TmR.mono {B B' : Nat → Prop} {g i t : Nat} (h : TmR B w τ g i t) (hb : ∀ n, B n → B' n) : TmR B' w τ g i t := by
  rcases h with ⟨a, n, ⟨b, c⟩, d⟩ | h
  · exact Or.inl ⟨a, n, ⟨b, hb n c⟩, d⟩
  · exact Or.inr h
/-- the names stay -/
theorem NmR.on {T S S' : List Nat} {w' : CW} {τ' : TW} (a : NmR p w τ) (b : WF p w) (c : CF p T S S' w τ w' τ') (d : ∀ r, r ∈ T → p + 8 < r := by first | (intro r hr; cases hr; done)) (e : ∀ f, f ∈ S → f < 15 ∨ 18 < f := by decide) (f : ∀ f, f ∈ S' → f < 27 ∨ 31 < f := by decide) : NmR p w' τ' :=
  (a.cf b c d ⟨fun y => by have := e _ y; omega, fun y => by have := e _ y; omega, fun y => by have := e _ y; omega, fun y => by have := e _ y; omega⟩ f).1
end ZCalc
