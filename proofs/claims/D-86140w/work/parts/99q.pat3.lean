/-! the reference's loop, while what begins is at work: all that the loop is for comes later -/
section ZPat3
variable {p e : Nat} {w : CW} {τ : TW}
/-- J: whatever holds for all that the loop is for -/
def tmJ (e : Nat) (G : PI → PQ → Int → TW → Prop) (F : PI → PQ → Prop) : (Int × Int → TW → Prop) → Prop := fun Q => ∀ J QF, (∀ v x4 u, (∀ I, Ccl e I QF → (∀ q u, Q (q, 1) u → tI u 7 = 0 → tI u 3 ≠ 7 → G I QF q u) → I v x4 u) → J v x4 u) → (∀ x u, Q (x, 0) u → RG u x → QF x u) → F J QF
section
variable {α α1 β1 : Type} {b : Nat} {T S S' : List Nat} {a t : Int} {N : α → Int × Int → CW → TW → Prop} {cm : (α → CW → Prop) → (Nat → CW → Prop) → Prop} {G : PI → PQ → Int → TW → Prop} {F : PI → PQ → Prop}
theorem OUTb.jT {F' : PI → PQ → Prop} (ht : ∀ I QF, True → F' I QF → F I QF) (h : OUTb p b T S S' a t N cm (tmJ e G F') w τ) : OUTb p b T S S' a t N cm (tmJ e G F) w τ :=
  OUTb.tt (fun Q h I QF h1 h2 => ht I QF trivial (h I QF h1 h2)) h
theorem OUTb.jW {S1 : List Nat} {A : Int} {F2 : TW → PI → PQ → Prop} (hR : Rm A w τ) (h : RB p w τ) (e0 : TW) (F1 : FT S1 τ e0) (hT : ∀ I QF, (∀ u, u = e0 → F2 u I QF) → F I QF)
    (h2 : ∀ u, u = e0 → RB p w u → FT S1 τ u → Rm A w u → OUTb p b T S S' a t N cm (tmJ e G (F2 u)) w u) (hs : ∀ f, f ∈ S1 → f ∈ S' := by decide) (h8 : ∀ f, f ∈ S1 → 8 < f ∧ f ≠ 41 ∧ f ≠ 45 := by decide) : OUTb p b T S S' a t N cm (tmJ e G F) w τ :=
  OUTb.tw (tm2 := fun u => tmJ e G (F2 u)) hR h e0 F1 (fun Q h I QF h1 h2 => hT I QF (fun u hu => h u hu I QF h1 h2)) h2 hs h8
/-- the loop's turn -/
theorem OUTb.jS {v x4 : Int} {σ : TW} (h : OUTb p b T S S' a t N cm (tmG e G (fun I _ => I v x4 σ)) w τ) : OUTb p b T S S' a t N cm (tmJ e G (fun J _ => J v x4 σ)) w τ :=
  OUTb.tt (fun Q h J QF h1 h2 => h1 _ _ _ (fun I cl k => h I QF cl k h2)) h
theorem OUTb.jR {v : α} {q y x4 : Int} (h : RB p w τ) (hN : N v (q, 1) w τ) (hc : ∀ Q X, Q v w → cm Q X) (ht : ∀ I QF, Ccl e I QF → G I QF q τ → I y x4 τ) (ha : 0 ≤ a := by decide) : OUTb p b T S S' a t N cm (tmJ e G (fun J _ => J y x4 τ)) w τ :=
  OUTb.jS (OUTb.iR h hN hc (fun I QF cl k => ht I QF cl k) ha)
theorem OUTb.jB {T1 S1 S1' : List Nat} {A a1 t1 : Int} {N1 : α1 → β1 → CW → TW → Prop} {cm1 : (α1 → CW → Prop) → (Nat → CW → Prop) → Prop} {tm1 : (β1 → TW → Prop) → Prop} {cm2 : α1 → CW → (α → CW → Prop) → (Nat → CW → Prop) → Prop} {F2 : β1 → TW → PI → PQ → Prop} (hR : Rm A w τ)
    (h1 : OUT p T1 S1 S1' a1 t1 N1 cm1 tm1 w τ) (hC : ∀ Q X, cm1 (fun v u => cm2 v u Q X) X → cm Q X) (hT : ∀ I QF, True → tm1 (fun v σ => F2 v σ I QF) → F I QF)
    (h2 : ∀ v v' u σ, RB p u σ → N1 v v' u σ → CF p T1 S1 S1' w τ u σ → Rm (A - a1) u σ → OUTb p b T S S' (a - a1) (t - a1) N (cm2 v u) (tmJ e G (F2 v' σ)) u σ)
    (hd : ∀ h pl v' σ, Dd h pl σ → FT S1' τ σ → DD S' h pl (tmJ e G (F2 v' σ)) σ)
    (hTT : ∀ r, r ∈ T1 → r ∈ T ∨ b < r := by first | exact fun r hr => Or.inl hr | (intro r hr; cases hr)) (hS : ∀ f, f ∈ S1 → f ∈ S := by first | decide | exact fun f hf => hf | (intro f hf; cases hf; done)) (hS' : ∀ f, f ∈ S1' → f ∈ S' := by first | decide | exact fun f hf => hf | (intro f hf; cases hf; done)) (ht : t1 ≤ t := by decide) : OUTb p b T S S' a t N cm (tmJ e G F) w τ :=
  OUTb.bd0 (tm2 := fun v σ => tmJ e G (F2 v σ)) hR h1 hC (fun Q b1 τ1 run h I QF h1 h2 => hT I QF trivial (run _ (h I QF h1 h2))) h2 hd hTT hS hS' ht
theorem OUTb.jBV {T1 S1 S1' : List Nat} {A a1 t1 : Int} {N1 : α1 → β1 → CW → TW → Prop} {cm1 : (α1 → CW → Prop) → (Nat → CW → Prop) → Prop} {tm1 : (β1 → TW → Prop) → Prop} {cm2 : CW → (α → CW → Prop) → (Nat → CW → Prop) → Prop} {F2 : TW → PI → PQ → Prop} (hR : Rm A w τ)
    (h1 : OUT p T1 S1 S1' a1 t1 N1 cm1 tm1 w τ) (hC : ∀ Q X, cm1 (fun _ u => cm2 u Q X) X → cm Q X) (hT : ∀ I QF, True → tm1 (fun _ σ => F2 σ I QF) → F I QF)
    (h2 : ∀ v v' u σ, RB p u σ → N1 v v' u σ → CF p T1 S1 S1' w τ u σ → Rm (A - a1) u σ → OUTb p b T S S' (a - a1) (t - a1) N (cm2 u) (tmJ e G (F2 σ)) u σ)
    (hd : ∀ h pl σ, Dd h pl σ → FT S1' τ σ → DD S' h pl (tmJ e G (F2 σ)) σ)
    (hTT : ∀ r, r ∈ T1 → r ∈ T ∨ b < r := by first | exact fun r hr => Or.inl hr | (intro r hr; cases hr)) (hS : ∀ f, f ∈ S1 → f ∈ S := by first | decide | exact fun f hf => hf | (intro f hf; cases hf; done)) (hS' : ∀ f, f ∈ S1' → f ∈ S' := by first | decide | exact fun f hf => hf | (intro f hf; cases hf; done)) (ht : t1 ≤ t := by decide) : OUTb p b T S S' a t N cm (tmJ e G F) w τ :=
  OUTb.jB (F2 := fun _ σ => F2 σ) hR h1 hC hT h2 (fun h pl _ σ => hd h pl σ) hTT hS hS' ht
theorem DD.jT {h pl : Int} {F' : PI → PQ → Prop} (ht : ∀ I QF, True → F' I QF → F I QF) (k : DD S' h pl (tmJ e G F') τ) : DD S' h pl (tmJ e G F) τ :=
  DD.c (fun Q h I QF h1 h2 => ht I QF trivial (h I QF h1 h2)) k
theorem DD.jS {h pl : Int} {v x4 : Int} {σ : TW} (k : DD S' h pl (tmG e G (fun I _ => I v x4 σ)) τ) : DD S' h pl (tmJ e G (fun J _ => J v x4 σ)) τ :=
  DD.c (fun Q h J QF h1 h2 => h1 _ _ _ (fun I cl k => h I QF cl k h2)) k
theorem DD.jW {S1 : List Nat} {h pl : Int} {F2 : TW → PI → PQ → Prop} (D : Dd h pl τ) (e0 : TW) (F1 : FT S1 τ e0) (hT : ∀ I QF, (∀ u, u = e0 → F2 u I QF) → F I QF)
    (h2 : ∀ u, u = e0 → Dd h pl u → FT S1 τ u → DD S' h pl (tmJ e G (F2 u)) u) (hs : ∀ f, f ∈ S1 → f ∈ S' := by first | decide | exact fun f hf => hf | (intro f hf; cases hf; done)) (h8 : ∀ f, f ∈ S1 → 8 < f ∧ f ≠ 41 ∧ f ≠ 45 := by decide) : DD S' h pl (tmJ e G F) τ :=
  DD.tw (tm2 := fun u => tmJ e G (F2 u)) D e0 F1 (fun Q h I QF h1 h2 => hT I QF (fun u hu => h u hu I QF h1 h2)) h2 hs h8
theorem DD.jB {S1 : List Nat} {h pl : Int} {tm1 : (β1 → TW → Prop) → Prop} {F2 : β1 → TW → PI → PQ → Prop} (h1 : DD S1 h pl tm1 τ) (hT : ∀ I QF, True → tm1 (fun b u => F2 b u I QF) → F I QF)
    (h2 : ∀ b u, Dd h pl u → FT S1 τ u → DD S' h pl (tmJ e G (F2 b u)) u) (hs : ∀ f, f ∈ S1 → f ∈ S' := by first | decide | exact fun f hf => hf | (intro f hf; cases hf; done)) : DD S' h pl (tmJ e G F) τ :=
  DD.bd0 (tm2 := fun b u => tmJ e G (F2 b u)) h1 (fun Q b1 τ1 run h I QF h1 h2 => hT I QF trivial (run _ (h I QF h1 h2))) h2 hs
theorem DD.jBV {S1 : List Nat} {h pl : Int} {tm1 : (β1 → TW → Prop) → Prop} {F2 : TW → PI → PQ → Prop} (h1 : DD S1 h pl tm1 τ) (hT : ∀ I QF, True → tm1 (fun _ u => F2 u I QF) → F I QF)
    (h2 : ∀ u, Dd h pl u → FT S1 τ u → DD S' h pl (tmJ e G (F2 u)) u) (hs : ∀ f, f ∈ S1 → f ∈ S' := by first | decide | exact fun f hf => hf | (intro f hf; cases hf; done)) : DD S' h pl (tmJ e G F) τ :=
  DD.jB (F2 := fun _ u => F2 u) h1 hT (fun _ u => h2 u) hs
theorem DD.jP {S1 : List Nat} {h pl : Int} {σ : TW} {F' : PI → PQ → Prop} (F1 : FT S1 τ σ) (ht : ∀ I QF, True → F' I QF → F I QF) (k : DD S' h pl (tmJ e G F') σ) (hs : ∀ f, f ∈ S1 → f ∈ S' := by first | decide | exact fun f hf => hf | (intro f hf; cases hf; done)) (h8 : ∀ f, f ∈ S1 → f ≠ 1 ∧ f ≠ 5 := by decide) : DD S' h pl (tmJ e G F) τ :=
  DD.pre F1 (fun Q h I QF h1 h2 => ht I QF trivial (h I QF h1 h2)) k hs h8
theorem OUTb.jM {S1 : List Nat} {A : Int} {τ' : TW} {F' : PI → PQ → Prop} (hR : Rm A w τ) (h : RB p w τ) (F1 : FT S1 τ τ') (hT : ∀ I QF, True → F' I QF → F I QF)
    (h2 : RB p w τ' → Rm A w τ' → OUTb p b T S S' a t N cm (tmJ e G F') w τ') (hs : ∀ f, f ∈ S1 → f ∈ S' := by first | decide | exact fun f hf => hf | (intro f hf; cases hf; done)) (h8 : ∀ f, f ∈ S1 → 8 < f ∧ f ≠ 41 ∧ f ≠ 45 := by decide) : OUTb p b T S S' a t N cm (tmJ e G F) w τ :=
  OUTb.tM hR h F1 (fun Q h I QF h1 h2 => hT I QF trivial (h I QF h1 h2)) h2 hs h8
/-- with a fault the loop ends at once -/
theorem DD.jF {h pl : Int} {x y : Int} (D : Dd h pl τ) (h0 : tI τ 7 ≠ 0) (ht : ∀ I QF, True → I x y τ → F I QF) : DD S' h pl (tmJ e G F) τ :=
  DD.jT (F' := fun I _ => I x y τ) (fun I QF cl k => ht I QF cl k) (DD.jS (DD.iF (x := x) (y := y) D h0 (fun I QF cl k => k)))
/-- the dead loop ends -/
theorem DD.jE {h pl : Int} {x : Int} (D : Dd h pl τ) (ht : ∀ I QF, True → QF x τ → F I QF) (hx : RG τ x) : DD S' h pl (tmJ e G F) τ :=
  DD.ret (b := (x, 0)) D (fun Q hQ I QF h1 h2 => ht I QF trivial (h2 x τ hQ hx))
/-- one loop for all is such a J -/
theorem OUT.toG {h1 : List Nat} {N : α → Int × Int → CW → TW → Prop} (h : OUT p T h1 S' a t N cm (tmJ e G F) w τ) : OUT p T h1 S' a t N cm (tmG e G F) w τ := by
  obtain ⟨w', τ', b', hc, run, g⟩ := h
  exact ⟨w', τ', b', hc, fun Q hQ I QF cl k1 k2 => run Q hQ I QF (fun v x4 u kk => kk I cl k1) k2, g⟩
end
end ZPat3
