/-! patterns of both, read: the reference's loop, a calculus with it -/
section ZPat2
variable {p e : Nat} {w : CW} {τ : TW}
/-- the reference's loop behind readAs -/
def rpA (call : Nat → List ZA → TW → (ZRes → TW → Prop) → Prop) (Q : Int → TW → Prop) (I15 : Int → Int → TW → Prop) (x3 x4 : Int) (u6 : TW) : Prop :=
          ((tI u6 7) = 0 →
            ((tI u6 32) = 0 →
              pT_readPattern_82 call Q x3 u6) ∧
            (¬ ((tI u6 32) = 0) →
              call 35 [ai x3] u6 (zqV (fun u9 =>
                call 36 [] u9 (zqI (fun v11 u10 =>
                  (v11 = 0 →
                    ((tI u10 7) = 0 →
                      ∀ u14 : TW, u14 = sI u10 32 (w32 ((tI u10 32) - 1)) →
                      ∀ x4_15 : Int, x4_15 = tI u14 32 →
                      (0 ≤ (tI u14 32) ∧ (tI u14 32) < 8) ∧
                      ∀ x3_17 : Int, x3_17 = tA u14 33 (tI u14 32) →
                      I15 x3_17 x4_15 u14) ∧
                    (¬ ((tI u10 7) = 0) →
                      I15 x3 x4 u10)) ∧
                  (¬ (v11 = 0) →
                    (0 ≤ (w32 ((tI u10 32) - 1)) ∧ (w32 ((tI u10 32) - 1)) < 8) ∧
                    (0 ≤ (tA u10 33 (w32 ((tI u10 32) - 1))) ∧ (tA u10 33 (w32 ((tI u10 32) - 1))) < 1700) ∧
                    (((tA u10 17 (tA u10 33 (w32 ((tI u10 32) - 1)))) = 6 → (0 ≤ (w32 ((tI u10 32) - 1)) ∧ (w32 ((tI u10 32) - 1)) < 8))) ∧
                    ∀ v20 : Int, v20 = (if ((tA u10 17 (tA u10 33 (w32 ((tI u10 32) - 1)))) = 6) ∧ ((tA u10 34 (w32 ((tI u10 32) - 1))) = 6) then 1 else 0) →
                    (fo_wanted u10) ∧
                    ∀ v25 : Int, v25 = (if ((tI u10 32) = 6) ∨ (¬ (v20 = 0)) then 1 else 0) →
                    call 25 [ai (ff_wanted u10), ai v25] u10 (zqI (fun v27 u26 =>
                      I15 v27 x4 u26) zno))) zno)) zno))) ∧
          (¬ ((tI u6 7) = 0) →
            pT_readPattern_208 call Q x3 u6)
/-- the reference's loop -/
def rpT (call : Nat → List ZA → TW → (ZRes → TW → Prop) → Prop) (Q : Int → TW → Prop) (I15 : Int → Int → TW → Prop) (x3 x4 : Int) (w : TW) : Prop :=
    ((tI w 7) = 0 →
      ((tI w 32) ≤ x4 →
        call 34 [ai x3] w (zqV (fun u6 => rpA call Q I15 x3 x4 u6) zno)) ∧
      (¬ ((tI w 32) ≤ x4) →
        ∀ x4_34 : Int, x4_34 = tI w 32 →
        (fo_wanted w) ∧
        ∀ v38 : Int, v38 = (if (tI w 32) = 6 then 1 else 0) →
        call 25 [ai (ff_wanted w), ai v38] w (zqI (fun v40 u39 =>
          I15 v40 x4_34 u39) zno))) ∧
    (¬ ((tI w 7) = 0) →
      pT_readPattern_208 call Q x3 w)
theorem pT_rp {call : Nat → List ZA → TW → (ZRes → TW → Prop) → Prop} {Q : Int → TW → Prop} {x3 x4 : Int} {w : TW} : pT_readPattern_15 call Q x3 x4 w = ∀ I15 : Int → Int → TW → Prop, (∀ (x3 x4 : Int) (w : TW), rpT call Q I15 x3 x4 w → I15 x3 x4 w) → I15 x3 x4 w := rfl
abbrev PI : Type := Int → Int → TW → Prop
abbrev PQ : Type := Int → TW → Prop
/-- the loop's own law -/
def Ccl (e : Nat) (I : PI) (QF : PQ) : Prop := ∀ (x3 x4 : Int) (w : TW), rpT (wpT (e + 8)) QF I x3 x4 w → I x3 x4 w
/-- behind a pattern: the loop at it; behind its as -/
def gI (I : PI) (_ : PQ) (q : Int) (u : TW) : Prop := I q (tI u 32) u
def gA (e : Nat) (I : PI) (QF : PQ) (q : Int) (u : TW) : Prop := rpA (wpT (e + 8)) QF I q (tI u 32) u
/-- the reference's pattern, if it goes on: a row -/
def RG (u : TW) (x : Int) : Prop := tI u 7 ≠ 0 ∨ (0 ≤ x ∧ x < 1700)
/-- a piece of the reference's loop, that ends in G, alive, or at the loop's end -/
def tmG (e : Nat) (G : PI → PQ → Int → TW → Prop) (F : PI → PQ → Prop) : (Int × Int → TW → Prop) → Prop := fun Q => ∀ I QF, Ccl e I QF → (∀ q u, Q (q, 1) u → tI u 7 = 0 → tI u 3 ≠ 7 → G I QF q u) → (∀ x u, Q (x, 0) u → RG u x → QF x u) → F I QF
section
variable {α α1 β1 : Type} {b : Nat} {T S S' : List Nat} {a t : Int} {N : α → Int × Int → CW → TW → Prop} {cm : (α → CW → Prop) → (Nat → CW → Prop) → Prop} {G : PI → PQ → Int → TW → Prop} {F : PI → PQ → Prop}
theorem OUTb.iT {F' : PI → PQ → Prop} (ht : ∀ I QF, Ccl e I QF → F' I QF → F I QF) (h : OUTb p b T S S' a t N cm (tmG e G F') w τ) : OUTb p b T S S' a t N cm (tmG e G F) w τ :=
  OUTb.tt (fun Q h I QF cl h1 h2 => ht I QF cl (h I QF cl h1 h2)) h
theorem OUTb.iW {S1 : List Nat} {A : Int} {F2 : TW → PI → PQ → Prop} (hR : Rm A w τ) (h : RB p w τ) (e0 : TW) (F1 : FT S1 τ e0) (hT : ∀ I QF, (∀ u, u = e0 → F2 u I QF) → F I QF)
    (h2 : ∀ u, u = e0 → RB p w u → FT S1 τ u → Rm A w u → OUTb p b T S S' a t N cm (tmG e G (F2 u)) w u) (hs : ∀ f, f ∈ S1 → f ∈ S' := by decide) (h8 : ∀ f, f ∈ S1 → 8 < f ∧ f ≠ 41 ∧ f ≠ 45 := by decide) : OUTb p b T S S' a t N cm (tmG e G F) w τ :=
  OUTb.tw (tm2 := fun u => tmG e G (F2 u)) hR h e0 F1 (fun Q h I QF cl h1 h2 => hT I QF (fun u hu => h u hu I QF cl h1 h2)) h2 hs h8
/-- the end -/
theorem OUTb.iR {v : α} {q : Int} (h : RB p w τ) (hN : N v (q, 1) w τ) (hc : ∀ Q X, Q v w → cm Q X) (ht : ∀ I QF, Ccl e I QF → G I QF q τ → F I QF) (ha : 0 ≤ a := by decide) : OUTb p b T S S' a t N cm (tmG e G F) w τ :=
  OUTb.ret (v' := (q, 1)) h hN hc (fun Q hQ I QF cl h1 h2 => ht I QF cl (h1 q τ hQ h.f0 h.n7)) ha
theorem OUTb.iB {T1 S1 S1' : List Nat} {A a1 t1 : Int} {N1 : α1 → β1 → CW → TW → Prop} {cm1 : (α1 → CW → Prop) → (Nat → CW → Prop) → Prop} {tm1 : (β1 → TW → Prop) → Prop} {cm2 : α1 → CW → (α → CW → Prop) → (Nat → CW → Prop) → Prop} {F2 : β1 → TW → PI → PQ → Prop} (hR : Rm A w τ)
    (h1 : OUT p T1 S1 S1' a1 t1 N1 cm1 tm1 w τ) (hC : ∀ Q X, cm1 (fun v u => cm2 v u Q X) X → cm Q X) (hT : ∀ I QF, Ccl e I QF → tm1 (fun v σ => F2 v σ I QF) → F I QF)
    (h2 : ∀ v v' u σ, RB p u σ → N1 v v' u σ → CF p T1 S1 S1' w τ u σ → Rm (A - a1) u σ → OUTb p b T S S' (a - a1) (t - a1) N (cm2 v u) (tmG e G (F2 v' σ)) u σ)
    (hd : ∀ h pl v' σ, Dd h pl σ → FT S1' τ σ → DD S' h pl (tmG e G (F2 v' σ)) σ)
    (hTT : ∀ r, r ∈ T1 → r ∈ T ∨ b < r := by first | exact fun r hr => Or.inl hr | (intro r hr; cases hr)) (hS : ∀ f, f ∈ S1 → f ∈ S := by first | decide | exact fun f hf => hf | (intro f hf; cases hf; done)) (hS' : ∀ f, f ∈ S1' → f ∈ S' := by first | decide | exact fun f hf => hf | (intro f hf; cases hf; done)) (ht : t1 ≤ t := by decide) : OUTb p b T S S' a t N cm (tmG e G F) w τ :=
  OUTb.bd0 (tm2 := fun v σ => tmG e G (F2 v σ)) hR h1 hC (fun Q b1 τ1 run h I QF cl h1 h2 => hT I QF cl (run _ (h I QF cl h1 h2))) h2 hd hTT hS hS' ht
theorem OUTb.iBV {T1 S1 S1' : List Nat} {A a1 t1 : Int} {N1 : α1 → β1 → CW → TW → Prop} {cm1 : (α1 → CW → Prop) → (Nat → CW → Prop) → Prop} {tm1 : (β1 → TW → Prop) → Prop} {cm2 : CW → (α → CW → Prop) → (Nat → CW → Prop) → Prop} {F2 : TW → PI → PQ → Prop} (hR : Rm A w τ)
    (h1 : OUT p T1 S1 S1' a1 t1 N1 cm1 tm1 w τ) (hC : ∀ Q X, cm1 (fun _ u => cm2 u Q X) X → cm Q X) (hT : ∀ I QF, Ccl e I QF → tm1 (fun _ σ => F2 σ I QF) → F I QF)
    (h2 : ∀ v v' u σ, RB p u σ → N1 v v' u σ → CF p T1 S1 S1' w τ u σ → Rm (A - a1) u σ → OUTb p b T S S' (a - a1) (t - a1) N (cm2 u) (tmG e G (F2 σ)) u σ)
    (hd : ∀ h pl σ, Dd h pl σ → FT S1' τ σ → DD S' h pl (tmG e G (F2 σ)) σ)
    (hTT : ∀ r, r ∈ T1 → r ∈ T ∨ b < r := by first | exact fun r hr => Or.inl hr | (intro r hr; cases hr)) (hS : ∀ f, f ∈ S1 → f ∈ S := by first | decide | exact fun f hf => hf | (intro f hf; cases hf; done)) (hS' : ∀ f, f ∈ S1' → f ∈ S' := by first | decide | exact fun f hf => hf | (intro f hf; cases hf; done)) (ht : t1 ≤ t := by decide) : OUTb p b T S S' a t N cm (tmG e G F) w τ :=
  OUTb.iB (F2 := fun _ σ => F2 σ) hR h1 hC hT h2 (fun h pl _ σ => hd h pl σ) hTT hS hS' ht
/-- the same, dead -/
theorem DD.iT {h pl : Int} {F' : PI → PQ → Prop} (ht : ∀ I QF, Ccl e I QF → F' I QF → F I QF) (k : DD S' h pl (tmG e G F') τ) : DD S' h pl (tmG e G F) τ :=
  DD.c (fun Q h I QF cl h1 h2 => ht I QF cl (h I QF cl h1 h2)) k
theorem DD.iW {S1 : List Nat} {h pl : Int} {F2 : TW → PI → PQ → Prop} (D : Dd h pl τ) (e0 : TW) (F1 : FT S1 τ e0) (hT : ∀ I QF, (∀ u, u = e0 → F2 u I QF) → F I QF)
    (h2 : ∀ u, u = e0 → Dd h pl u → FT S1 τ u → DD S' h pl (tmG e G (F2 u)) u) (hs : ∀ f, f ∈ S1 → f ∈ S' := by first | decide | exact fun f hf => hf | (intro f hf; cases hf; done)) (h8 : ∀ f, f ∈ S1 → 8 < f ∧ f ≠ 41 ∧ f ≠ 45 := by decide) : DD S' h pl (tmG e G F) τ :=
  DD.tw (tm2 := fun u => tmG e G (F2 u)) D e0 F1 (fun Q h I QF cl h1 h2 => hT I QF (fun u hu => h u hu I QF cl h1 h2)) h2 hs h8
theorem DD.iB {S1 : List Nat} {h pl : Int} {tm1 : (β1 → TW → Prop) → Prop} {F2 : β1 → TW → PI → PQ → Prop} (h1 : DD S1 h pl tm1 τ) (hT : ∀ I QF, Ccl e I QF → tm1 (fun b u => F2 b u I QF) → F I QF)
    (h2 : ∀ b u, Dd h pl u → FT S1 τ u → DD S' h pl (tmG e G (F2 b u)) u) (hs : ∀ f, f ∈ S1 → f ∈ S' := by first | decide | exact fun f hf => hf | (intro f hf; cases hf; done)) : DD S' h pl (tmG e G F) τ :=
  DD.bd0 (tm2 := fun b u => tmG e G (F2 b u)) h1 (fun Q b1 τ1 run h I QF cl h1 h2 => hT I QF cl (run _ (h I QF cl h1 h2))) h2 hs
theorem DD.iBV {S1 : List Nat} {h pl : Int} {tm1 : (β1 → TW → Prop) → Prop} {F2 : TW → PI → PQ → Prop} (h1 : DD S1 h pl tm1 τ) (hT : ∀ I QF, Ccl e I QF → tm1 (fun _ u => F2 u I QF) → F I QF)
    (h2 : ∀ u, Dd h pl u → FT S1 τ u → DD S' h pl (tmG e G (F2 u)) u) (hs : ∀ f, f ∈ S1 → f ∈ S' := by first | decide | exact fun f hf => hf | (intro f hf; cases hf; done)) : DD S' h pl (tmG e G F) τ :=
  DD.iB (F2 := fun _ u => F2 u) h1 hT (fun _ u => h2 u) hs
theorem DD.iP {S1 : List Nat} {h pl : Int} {σ : TW} {F' : PI → PQ → Prop} (F1 : FT S1 τ σ) (ht : ∀ I QF, Ccl e I QF → F' I QF → F I QF) (k : DD S' h pl (tmG e G F') σ) (hs : ∀ f, f ∈ S1 → f ∈ S' := by first | decide | exact fun f hf => hf | (intro f hf; cases hf; done)) (h8 : ∀ f, f ∈ S1 → f ≠ 1 ∧ f ≠ 5 := by decide) : DD S' h pl (tmG e G F) τ :=
  DD.pre F1 (fun Q h I QF cl h1 h2 => ht I QF cl (h I QF cl h1 h2)) k hs h8
theorem OUTb.iM {S1 : List Nat} {A : Int} {τ' : TW} {F' : PI → PQ → Prop} (hR : Rm A w τ) (h : RB p w τ) (F1 : FT S1 τ τ') (hT : ∀ I QF, Ccl e I QF → F' I QF → F I QF)
    (h2 : RB p w τ' → Rm A w τ' → OUTb p b T S S' a t N cm (tmG e G F') w τ') (hs : ∀ f, f ∈ S1 → f ∈ S' := by first | decide | exact fun f hf => hf | (intro f hf; cases hf; done)) (h8 : ∀ f, f ∈ S1 → 8 < f ∧ f ≠ 41 ∧ f ≠ 45 := by decide) : OUTb p b T S S' a t N cm (tmG e G F) w τ :=
  OUTb.tM hR h F1 (fun Q h I QF cl h1 h2 => hT I QF cl (h I QF cl h1 h2)) h2 hs h8
/-- the dead loop ends -/
theorem DD.iE {h pl : Int} {x : Int} (D : Dd h pl τ) (ht : ∀ I QF, Ccl e I QF → QF x τ → F I QF) (hx : RG τ x) : DD S' h pl (tmG e G F) τ :=
  DD.ret (b := (x, 0)) D (fun Q hQ I QF cl h1 h2 => ht I QF cl (h2 x τ hQ hx))
/-- with a fault the loop ends at once -/
theorem DD.iF {h pl : Int} {x y : Int} (D : Dd h pl τ) (h0 : tI τ 7 ≠ 0) (ht : ∀ I QF, Ccl e I QF → I x y τ → F I QF) : DD S' h pl (tmG e G F) τ :=
  DD.iE (x := x) D (fun I QF cl k => ht I QF cl (cl x y τ (br0 h0 k))) (Or.inl h0)
end
end ZPat2
