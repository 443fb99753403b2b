/-! the loop over a rule's patterns, both: its steps -/
section ZRule3
variable {p b e d : Nat} {w : CW} {τ : TW}
section
variable {α β α1 β1 ι κ : Type} {T S S' : List Nat} {a t : Int} {N : α → β → CW → TW → Prop} {cm : (α → CW → Prop) → (Nat → CW → Prop) → Prop} {tm : (β → TW → Prop) → Prop} {L F : (α → CW → Prop) → (Nat → CW → Prop) → ι → Prop} {K G : (β → TW → Prop) → κ → Prop}
/-- a call of both, of whose dead answer something is told -/
theorem OUTb.bd00d {T1 S1 S1' : List Nat} {A a1 t1 : Int} {N1 : α1 → β1 → CW → TW → Prop} {G0 : β1 → TW → Prop} {cm1 : (α1 → CW → Prop) → (Nat → CW → Prop) → Prop} {tm1 : (β1 → TW → Prop) → Prop} {cm2 : α1 → CW → (α → CW → Prop) → (Nat → CW → Prop) → Prop} {tm2 : β1 → TW → (β → TW → Prop) → Prop} (hR : Rm A w τ)
    (h1 : OUTd p T1 S1 S1' a1 t1 N1 G0 cm1 tm1 w τ) (hC : ∀ Q X v1 w1, (∀ P : α1 → CW → Prop, P v1 w1 → cm1 P X) → cm2 v1 w1 Q X → cm Q X) (hX : ∀ Q X, (∀ P : α1 → CW → Prop, cm1 P X) → cm Q X) (hT : ∀ Q b1 τ1, (∀ P : β1 → TW → Prop, P b1 τ1 → tm1 P) → tm2 b1 τ1 Q → tm Q)
    (h2 : ∀ v v' u σ, RB p u σ → N1 v v' u σ → CF p T1 S1 S1' w τ u σ → Rm (A - a1) u σ → OUTb p b T S S' (a - a1) (t - a1) N (cm2 v u) (tm2 v' σ) u σ)
    (hd : ∀ h pl v' σ, Dd h pl σ → G0 v' σ → FT S1' τ σ → DD S' h pl (tm2 v' σ) σ)
    (hTT : ∀ r, r ∈ T1 → r ∈ T ∨ b < r := by first | exact fun r hr => Or.inl hr | (intro r hr; cases hr)) (hS : ∀ f, f ∈ S1 → f ∈ S := by first | decide | exact fun f hf => hf | (intro f hf; cases hf; done)) (hS' : ∀ f, f ∈ S1' → f ∈ S' := by first | decide | exact fun f hf => hf | (intro f hf; cases hf; done)) (ht : t1 ≤ t := by decide) : OUTb p b T S S' a t N cm tm w τ := by
  intro hb
  obtain ⟨w1, τ1, b1, c1, run1, h⟩ := h1
  have c1' : CFb p b T S S' w τ w1 τ1 := c1.b.mono hb hTT hS hS'
  rcases h with ⟨v1, rb1, p1, n1, k1⟩ | ⟨hh, pl, x, p1, wr1, ⟨dd1, gg1⟩, k1⟩
  · obtain ⟨w2, τ2, b2, c2, run2, g⟩ := h2 v1 b1 w1 τ1 rb1 n1 c1 (hR.to c1.1.emu c1.1.emz p1 (Int.le_refl _)) (Nat.le_trans hb c1.1.1)
    refine ⟨w2, τ2, b2, c1'.trans c2 (Nat.le_refl _) (fun r hr => Or.inl hr) (fun f hf => hf) (fun f hf => hf), fun Q hQ => hT _ b1 τ1 run1 (run2 _ hQ), ?_⟩
    rcases g with ⟨v2, rb2, p2, n2, k2⟩ | ⟨hh, pl, x, p2, wr2, dd2, k2⟩
    · exact Or.inl ⟨v2, rb2, by omega, n2, fun Q X hQ => hC _ _ v1 w1 (fun P hP => k1 P X hP) (k2 _ _ hQ)⟩
    · exact Or.inr ⟨hh, pl, x, by omega, wr2, dd2, fun Q X hx => hC _ _ v1 w1 (fun P hP => k1 P X hP) (k2 _ _ hx)⟩
  · obtain ⟨σ', b', f1, f2, f3, dd2, run2⟩ := hd hh pl b1 τ1 dd1 gg1 c1.2.2.2.1
    refine ⟨w1, σ', b', ⟨c1'.1, c1'.2.1, c1'.2.2.1, c1'.2.2.2.1.trans f1, by rw [f2]; exact c1'.2.2.2.2.1, by rw [f3]; exact c1'.2.2.2.2.2⟩, fun Q hQ => hT _ b1 τ1 run1 (run2 _ hQ), Or.inr ⟨hh, pl, x, ?_, wr1, dd2, fun Q X hx => hX _ _ (fun P => k1 P X hx)⟩⟩
    have f2' : tI σ' 5 = tI τ1 5 := f2
    have f3' : tI σ' 1 = tI τ1 1 := f3
    unfold pot at p1 ⊢
    rw [f2', f3']
    omega
theorem OUTb.gBd {T1 S1 S1' : List Nat} {A a1 t1 : Int} {N1 : α1 → β1 → CW → TW → Prop} {G0 : β1 → TW → Prop} {cm1 : (α1 → CW → Prop) → (Nat → CW → Prop) → Prop} {tm1 : (β1 → TW → Prop) → Prop} {F2 : α1 → CW → (α → CW → Prop) → (Nat → CW → Prop) → ι → Prop} {G2 : β1 → TW → (β → TW → Prop) → κ → Prop} (hR : Rm A w τ)
    (h1 : OUTd p T1 S1 S1' a1 t1 N1 G0 cm1 tm1 w τ) (hC : ∀ Q X I, L Q X I → cm1 (fun v u => F2 v u Q X I) X → F Q X I) (hT : ∀ Q I b1 σ, K Q I → (∀ P : β1 → TW → Prop, P b1 σ → tm1 P) → G2 b1 σ Q I → G Q I)
    (h2 : ∀ v v' u σ, RB p u σ → N1 v v' u σ → CF p T1 S1 S1' w τ u σ → Rm (A - a1) u σ → OUTb p b T S S' (a - a1) (t - a1) N (cmG L (F2 v u)) (tmL K (G2 v' σ)) u σ)
    (hd : ∀ h pl v' σ, Dd h pl σ → G0 v' σ → FT S1' τ σ → DD S' h pl (tmL K (G2 v' σ)) σ)
    (hTT : ∀ r, r ∈ T1 → r ∈ T ∨ b < r := by first | exact fun r hr => Or.inl hr | (intro r hr; cases hr)) (hS : ∀ f, f ∈ S1 → f ∈ S := by first | decide | exact fun f hf => hf | (intro f hf; cases hf; done)) (hS' : ∀ f, f ∈ S1' → f ∈ S' := by first | decide | exact fun f hf => hf | (intro f hf; cases hf; done)) (ht : t1 ≤ t := by decide) : OUTb p b T S S' a t N (cmG L F) (tmL K G) w τ :=
  OUTb.bd00d (cm2 := fun v u => cmG L (F2 v u)) (tm2 := fun v σ => tmL K (G2 v σ)) hR h1 (fun Q X _ _ run k I l => hC Q X I l (run _ (k I l))) (fun Q X k I l => hC Q X I l (k _)) (fun Q b1 τ1 run h I l => hT Q I b1 τ1 l run (h I l)) h2 hd hTT hS hS' ht
end
/-- a rule's number is written -/
theorem Dd.w45 {h pl : Int} {τ' : TW} (D : Dd h pl τ) (F : FT [45] τ τ') (hf : tI τ 7 ≠ 0 ∨ R45 τ') : Dd h pl τ' := by
  rcases D with ⟨a, bb, c⟩ | ⟨y1, y2, y3, y4, y5⟩
  · exact Or.inl ⟨(F 7 (by decide)).1.trans a, (F 8 (by decide)).1.trans bb, c⟩
  · refine Or.inr ⟨(F 7 (by decide)).1.trans y1, (F 3 (by decide)).1.trans y2, y3, (F 5 (by decide)).1.trans y4, ?_⟩
    rcases hf with z | z
    · exact absurd y1 z
    · exact z
theorem DD.tw45 {β : Type} {S' : List Nat} {h pl v : Int} {f : Nat} {tm : (β → TW → Prop) → Prop} {tm2 : TW → (β → TW → Prop) → Prop} (D : Dd h pl τ) (hf : tI τ 7 ≠ 0 ∨ R45 (sA τ 45 f v)) (hT : ∀ Q, (∀ u, u = sA τ 45 f v → tm2 u Q) → tm Q) (h2 : ∀ u, u = sA τ 45 f v → Dd h pl u → FT [45] τ u → DD S' h pl (tm2 u) u) (hs : 45 ∈ S') : DD S' h pl tm τ := by
  have F : FT [45] τ (sA τ 45 f v) := (FT.refl _ _).ssA (by decide)
  obtain ⟨σ2, b2, g1, g2, g3, g4, g5⟩ := h2 _ rfl (D.w45 F hf) F
  refine ⟨σ2, b2, (F.mono (fun f hf => by rw [List.mem_singleton.mp hf]; exact hs)).trans g1, g2, g3, g4, fun Q hQ => hT Q (fun u hu => ?_)⟩
  subst hu
  exact g5 Q hQ
/-- the component's loop over columns -/
def rlC (p M F x : Nat) (Q : Unit → CW → Prop) (X : Nat → CW → Prop) (I62 : Int → CW → Prop) : Prop := ∀ (x3 : Int) (w : CW), (
    (hF 46 (tg w F) = true) ∧
    ((fI w 46 F) ≤ x3 →
      pC_X0_rule_116 p (wpC p M) (fun w => Q () w) (fun x w => X x w) F x w) ∧
    (¬ ((fI w 46 F) ≤ x3) →
      (x3 ≤ 0 →
        pC_X0_rule_94 p (wpC p M) (fun w => Q () w) (fun x w => X x w) I62 F x x3 w) ∧
      (¬ (x3 ≤ 0) →
        wpC p M 16 [ar p, ai 44] w (zqI (fun v73 u72 =>
          wpC p M 10 [ar p, ai v73, ai 6, ai (fI u72 11 p)] u72 (zqV (fun u74 =>
            wpC p M 4 [ar p] u74 (zqV (fun u76 =>
              pC_X0_rule_94 p (wpC p M) (fun w => Q () w) (fun x w => X x w) I62 F x x3 u76) (fun x78 u79 =>
              X x78 u79))) (fun x80 u81 =>
            X x80 u81))) zno)))) → I62 x3 w
theorem pC_rl62 {M F x : Nat} {Q : Unit → CW → Prop} {X : Nat → CW → Prop} {x3 : Int} {w : CW} : pC_X0_rule_62 p (wpC p M) (fun w => Q () w) (fun x w => X x w) F x x3 w = ∀ I, rlC p M F x Q X I → I x3 w := rfl
/-- the reference's -/
def rlT (M : Nat) (x1 x2 : Int) (Q : Unit → TW → Prop) (I85 : Int → Int → TW → Prop) : Prop := ∀ (x3 : Int) (x4 : Int) (w : TW), (
    (0 ≤ x1 ∧ x1 < 12) ∧
    (¬ ((tA w 43 x1) ≤ x4) ∧ ((tI w 7) = 0) →
      (x4 ≤ 0 →
        pT_readRule_133 (wpT M) (fun w => Q () w) I85 x1 x2 x3 x4 w) ∧
      (¬ (x4 ≤ 0) →
        ((ff_isSign 44 w) = 0 →
          wpT M 12 [ai 6] w (zqV (fun u51 =>
            pT_readRule_123 (wpT M) (fun w => Q () w) I85 x1 x2 x3 x4 u51) zno)) ∧
        (¬ ((ff_isSign 44 w) = 0) →
          pT_readRule_123 (wpT M) (fun w => Q () w) I85 x1 x2 x3 x4 w))) ∧
    (¬ (¬ ((tA w 43 x1) ≤ x4) ∧ ((tI w 7) = 0)) →
      pT_readRule_252 (wpT M) (fun w => Q () w) x1 w)) → I85 x3 x4 w
theorem pT_rl85 {M : Nat} {x1 x2 : Int} {Q : Unit → TW → Prop} {x3 x4 : Int} {w : TW} : pT_readRule_85 (wpT M) (fun w => Q () w) x1 x2 x3 x4 w = ∀ I, rlT M x1 x2 Q I → I x3 x4 w := rfl
/-- the reference, behind a pattern -/
def rlG (call : Nat → List ZA → TW → (ZRes → TW → Prop) → Prop) (Q : TW → Prop) (I85 : Int → Int → TW → Prop) (x1 x2 x3 x4 v26 : Int) (u25 : TW) : Prop :=
    ((tI u25 7) = 0 →
      (x4 = 0 →
        (0 ≤ (tI u25 27) ∧ (tI u25 27) < 192) ∧
        ∀ u40 : TW, u40 = sA u25 47 (tI u25 27) v26 →
        pT_readRule_199 call Q I85 x1 x2 x4 v26 u40) ∧
      (¬ (x4 = 0) →
        (0 ≤ x3 ∧ x3 < 1700) ∧
        ∀ u29 : TW, u29 = sA u25 23 x3 v26 →
        pT_readRule_199 call Q I85 x1 x2 x4 v26 u29)) ∧
    (¬ ((tI u25 7) = 0) →
      pT_readRule_171 call Q u25)
/-- dead, behind all patterns -/
theorem rl_dead252 {h pl : Int} {f : Nat} (hf : f < 12) (D : Dd h pl τ) (r27 : 0 ≤ tI τ 27 ∧ tI τ 27 < 192) : DD [7, 8, 45, 53] h pl (fun (Q : Unit → TW → Prop) => pT_readRule_252 (wpT (e + 9)) (fun w => Q () w) f τ) τ := by
  have hff : (0 : Int) ≤ (f : Int) ∧ (f : Int) < 12 := by omega
  have nc : ¬ (((tI τ 7) = 0) ∧ (¬ ((ff_isSign 44 τ) = 0))) := fun y => y.2 (D.ns y.1 44).1
  refine DD.tw (S1 := [53]) (tm2 := fun u (Q : Unit → TW → Prop) => wpT (e + 9) 20 [ai 58] u (zqV (fun u58 => ((tI u58 7) = 0 → wpT (e + 9) 42 [] u58 (zqV (fun u64 => pT_readRule_299 (wpT (e + 9)) (fun w => Q () w) f u64) zno)) ∧ (¬ ((tI u58 7) = 0) → pT_readRule_299 (wpT (e + 9)) (fun w => Q () w) f u58)) zno)) D (sA τ 53 (tI τ 27) 0) ((FT.refl _ _).ssA (by decide)) (fun Q k => bT_readRule_252 (br0 nc (bT_readRule_278 (wT_readGuard (by omega) (bT_readGuard_0 ⟨r27, fun u hu => br1 ?_ ?_⟩))))) (fun u eu D1 F1 => ?_)
  · by_cases y : tI u 7 = 0
    · exact Or.inr ((D.ft (show FT [53] τ u by rw [hu]; exact (FT.refl _ _).ssA (by decide)) (by decide)).ns y 3).2.1
    · exact Or.inl y
  · exact bT_readGuard_25 (k u hu)
  · obtain ⟨σ2, ⟨a, bb, c⟩, run⟩ := dd_must (d := e + 5) (c := 58) D1
    refine DD.pre (tm' := fun (Q : Unit → TW → Prop) => pT_readRule_299 (wpT (e + 9)) (fun w => Q () w) f σ2) (S1 := [7, 8]) a (fun Q k => run _ (br0 c k)) ?_
    obtain ⟨σ3, ⟨a3, b3, c3⟩, run3⟩ := dd_must (d := e + 5) (c := 59) bb
    refine DD.pre (tm' := fun (Q : Unit → TW → Prop) => (0 ≤ (f : Int) ∧ (f : Int) < 12) ∧ (0 ≤ (f : Int) ∧ (f : Int) < 12) ∧ ∀ u62 : TW, u62 = sA σ3 45 f (w32 ((tA σ3 45 f) + 1)) → Q () u62) (S1 := [7, 8]) a3 (fun Q k => bT_readRule_299 (run3 _ k)) ?_
    exact DD.tw45 b3 (Or.inl c3) (fun Q k => ⟨hff, hff, k⟩) (fun u3 e3 D3 F3 => DD.ret (b := ()) D3 (fun Q k => k)) (by decide)
end ZRule3
