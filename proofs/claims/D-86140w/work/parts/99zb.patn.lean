/-! a pattern with its as, both
-/
section ZPatn
variable {p b e d : Nat} {w : CW} {τ : TW}
/-- a piece of the loop within a longer one -/
theorem OUTb.iN0 {α α1 : Type} {b0 : Nat} {T S S' T1 S1 S1' : List Nat} {A a1 t1 a t : Int} {N : α → Int × Int → CW → TW → Prop} {N1 : α1 → Int × Int → CW → TW → Prop} {cm : (α → CW → Prop) → (Nat → CW → Prop) → Prop} {cm1 : (α1 → CW → Prop) → (Nat → CW → Prop) → Prop} {cm2 : α1 → CW → (α → CW → Prop) → (Nat → CW → Prop) → Prop} {G G1 : PI → PQ → Int → TW → Prop} {F : PI → PQ → Prop} (hR : Rm A w τ)
    (h1 : OUT p T1 S1 S1' a1 t1 N1 cm1 (tmG e G1 F) w τ) (hC : ∀ Q X v1 w1, (∀ P : α1 → CW → Prop, P v1 w1 → cm1 P X) → cm2 v1 w1 Q X → cm Q X) (hX : ∀ Q X, (∀ P : α1 → CW → Prop, cm1 P X) → cm Q X) (hN1 : ∀ v v' u σ, N1 v v' u σ → v'.2 = 1)
    (h2 : ∀ v q u σ, RB p u σ → N1 v (q, 1) u σ → CF p T1 S1 S1' w τ u σ → Rm (A - a1) u σ → OUTb p b0 T S S' (a - a1) (t - a1) N (cm2 v u) (tmG e G (fun I QF => G1 I QF q σ)) u σ)
    (hTT : ∀ r, r ∈ T1 → r ∈ T ∨ b0 < r := by first | exact fun r hr => Or.inl hr | (intro r hr; cases hr)) (hS : ∀ f, f ∈ S1 → f ∈ S := by first | decide | exact fun f hf => hf | (intro f hf; cases hf; done)) (hS' : ∀ f, f ∈ S1' → f ∈ S' := by first | decide | exact fun f hf => hf | (intro f hf; cases hf; done)) (ht : t1 ≤ t := by decide) : OUTb p b0 T S S' a t N cm (tmG e G F) w τ := by
  refine OUTb.bd00 (tm2 := fun v σ => tmG e G (fun I QF => (v.2 = 1 → tI σ 7 = 0 → tI σ 3 ≠ 7 → G1 I QF v.1 σ) ∧ (v.2 = 0 → RG σ v.1 → QF v.1 σ))) hR h1 hC hX (fun Q b1 τ1 run h I QF cl h1 h2 => ?_) (fun v v' u σ rb n c r => ?_) (fun h pl v' σ D F => ?_) hTT hS hS' ht
  · have k := h I QF cl h1 h2
    refine run (fun b u => b = b1 ∧ u = τ1) ⟨rfl, rfl⟩ I QF cl (fun q u hq a c => ?_) (fun x u hq hr => ?_)
    · obtain ⟨q1, q2⟩ := hq
      subst q1
      subst q2
      exact k.1 rfl a c
    · obtain ⟨q1, q2⟩ := hq
      subst q1
      subst q2
      exact k.2 rfl hr
  · obtain ⟨q, f⟩ := v'
    have hf : f = 1 := hN1 _ _ _ _ n
    subst hf
    exact OUTb.iT (fun I QF cl k => ⟨fun _ _ _ => k, fun y => absurd y (show ¬ ((1 : Int) = 0) by decide)⟩) (h2 v q u σ rb n c r)
  · by_cases z : v'.2 = 0
    · by_cases hr : RG σ v'.1
      · exact DD.iE (x := v'.1) D (fun I QF cl k => ⟨fun y => by omega, fun _ _ => k⟩) hr
      · exact DD.iE (x := 0) D (fun I QF cl _ => ⟨fun y => by omega, fun _ q => absurd q hr⟩) (Or.inr ⟨by decide, by decide⟩)
    · exact DD.iE (x := 0) D (fun I QF cl _ => ⟨fun _ y1 y2 => by
        rcases D.cs with x | x
        · exact absurd y1 x
        · exact absurd x.2 y2, fun y => absurd y z⟩) (Or.inr ⟨by decide, by decide⟩)
theorem OUTb.iN {α α1 : Type} {b0 : Nat} {T S S' T1 S1 S1' : List Nat} {A a1 t1 a t : Int} {N : α → Int × Int → CW → TW → Prop} {N1 : α1 → Int × Int → CW → TW → Prop} {cm : (α → CW → Prop) → (Nat → CW → Prop) → Prop} {cm1 : (α1 → CW → Prop) → (Nat → CW → Prop) → Prop} {cm2 : α1 → CW → (α → CW → Prop) → (Nat → CW → Prop) → Prop} {G G1 : PI → PQ → Int → TW → Prop} {F : PI → PQ → Prop} (hR : Rm A w τ)
    (h1 : OUT p T1 S1 S1' a1 t1 N1 cm1 (tmG e G1 F) w τ) (hC : ∀ Q X, cm1 (fun v u => cm2 v u Q X) X → cm Q X) (hN1 : ∀ v v' u σ, N1 v v' u σ → v'.2 = 1)
    (h2 : ∀ v q u σ, RB p u σ → N1 v (q, 1) u σ → CF p T1 S1 S1' w τ u σ → Rm (A - a1) u σ → OUTb p b0 T S S' (a - a1) (t - a1) N (cm2 v u) (tmG e G (fun I QF => G1 I QF q σ)) u σ)
    (hTT : ∀ r, r ∈ T1 → r ∈ T ∨ b0 < r := by first | exact fun r hr => Or.inl hr | (intro r hr; cases hr)) (hS : ∀ f, f ∈ S1 → f ∈ S := by first | decide | exact fun f hf => hf | (intro f hf; cases hf; done)) (hS' : ∀ f, f ∈ S1' → f ∈ S' := by first | decide | exact fun f hf => hf | (intro f hf; cases hf; done)) (ht : t1 ≤ t := by decide) : OUTb p b0 T S S' a t N cm (tmG e G F) w τ :=
  OUTb.iN0 hR h1 (fun Q X _ _ run k => hC Q X (run _ k)) (fun Q X k => hC Q X (k _)) hN1 h2 hTT hS hS' ht
/-- the same within a loop of the component's -/
theorem OUTb.kN {ι α α1 : Type} {b0 : Nat} {T S S' T1 S1 S1' : List Nat} {A a1 t1 a t : Int} {N : α → Int × Int → CW → TW → Prop} {N1 : α1 → Int × Int → CW → TW → Prop} {L FC : (α → CW → Prop) → (Nat → CW → Prop) → ι → Prop} {F2 : α1 → CW → (α → CW → Prop) → (Nat → CW → Prop) → ι → Prop} {cm1 : (α1 → CW → Prop) → (Nat → CW → Prop) → Prop} {G G1 : PI → PQ → Int → TW → Prop} {F : PI → PQ → Prop} (hR : Rm A w τ)
    (h1 : OUT p T1 S1 S1' a1 t1 N1 cm1 (tmG e G1 F) w τ) (hC : ∀ Q X I, L Q X I → cm1 (fun v u => F2 v u Q X I) X → FC Q X I) (hN1 : ∀ v v' u σ, N1 v v' u σ → v'.2 = 1)
    (h2 : ∀ v q u σ, RB p u σ → N1 v (q, 1) u σ → CF p T1 S1 S1' w τ u σ → Rm (A - a1) u σ → OUTb p b0 T S S' (a - a1) (t - a1) N (cmG L (F2 v u)) (tmG e G (fun I QF => G1 I QF q σ)) u σ)
    (hTT : ∀ r, r ∈ T1 → r ∈ T ∨ b0 < r := by first | exact fun r hr => Or.inl hr | (intro r hr; cases hr)) (hS : ∀ f, f ∈ S1 → f ∈ S := by first | decide | exact fun f hf => hf | (intro f hf; cases hf; done)) (hS' : ∀ f, f ∈ S1' → f ∈ S' := by first | decide | exact fun f hf => hf | (intro f hf; cases hf; done)) (ht : t1 ≤ t := by decide) : OUTb p b0 T S S' a t N (cmG L FC) (tmG e G F) w τ :=
  OUTb.iN0 (cm2 := fun v u => cmG L (F2 v u)) hR h1 (fun Q X _ _ run k I l => hC Q X I l (run _ (k I l))) (fun Q X k I l => hC Q X I l (k _)) hN1 h2 hTT hS hS' ht
/-- a call of both within a loop of the component's -/
theorem OUTb.kBV {ι α α1 β1 : Type} {b0 : Nat} {T S S' T1 S1 S1' : List Nat} {A a1 t1 a t : Int} {N : α → Int × Int → CW → TW → Prop} {N1 : α1 → β1 → CW → TW → Prop} {L FC : (α → CW → Prop) → (Nat → CW → Prop) → ι → Prop} {F2 : CW → (α → CW → Prop) → (Nat → CW → Prop) → ι → Prop} {cm1 : (α1 → CW → Prop) → (Nat → CW → Prop) → Prop} {tm1 : (β1 → TW → Prop) → Prop} {G : PI → PQ → Int → TW → Prop} {F : PI → PQ → Prop} {FT2 : TW → PI → PQ → Prop} (hR : Rm A w τ)
    (h1 : OUT p T1 S1 S1' a1 t1 N1 cm1 tm1 w τ) (hC : ∀ Q X I, L Q X I → cm1 (fun _ u => F2 u Q X I) X → FC Q X I) (hT : ∀ I QF, Ccl e I QF → tm1 (fun _ σ => FT2 σ I QF) → F I QF)
    (h2 : ∀ v v' u σ, RB p u σ → N1 v v' u σ → CF p T1 S1 S1' w τ u σ → Rm (A - a1) u σ → OUTb p b0 T S S' (a - a1) (t - a1) N (cmG L (F2 u)) (tmG e G (FT2 σ)) u σ)
    (hd : ∀ h pl σ, Dd h pl σ → FT S1' τ σ → DD S' h pl (tmG e G (FT2 σ)) σ)
    (hTT : ∀ r, r ∈ T1 → r ∈ T ∨ b0 < r := by first | exact fun r hr => Or.inl hr | (intro r hr; cases hr)) (hS : ∀ f, f ∈ S1 → f ∈ S := by first | decide | exact fun f hf => hf | (intro f hf; cases hf; done)) (hS' : ∀ f, f ∈ S1' → f ∈ S' := by first | decide | exact fun f hf => hf | (intro f hf; cases hf; done)) (ht : t1 ≤ t := by decide) : OUTb p b0 T S S' a t N (cmG L FC) (tmG e G F) w τ :=
  OUTb.bd00 (cm2 := fun _ u => cmG L (F2 u)) (tm2 := fun _ σ => tmG e G (FT2 σ)) hR h1 (fun Q X _ _ run k I l => hC Q X I l (run _ (k I l))) (fun Q X k I l => hC Q X I l (k _)) (fun Q b1 τ1 run h I QF cl h1 h2 => hT I QF cl (run _ (h I QF cl h1 h2))) (fun v v' u σ => h2 v v' u σ) (fun h pl _ σ => hd h pl σ) hTT hS hS' ht
/-- a piece of the loop, whatever holds for all of it -/
theorem OUTb.jN {α α1 : Type} {b0 : Nat} {T S S' T1 S1 S1' : List Nat} {A a1 t1 a t : Int} {N : α → Int × Int → CW → TW → Prop} {N1 : α1 → Int × Int → CW → TW → Prop} {cm : (α → CW → Prop) → (Nat → CW → Prop) → Prop} {cm1 : (α1 → CW → Prop) → (Nat → CW → Prop) → Prop} {cm2 : α1 → CW → (α → CW → Prop) → (Nat → CW → Prop) → Prop} {G G1 : PI → PQ → Int → TW → Prop} {F : PI → PQ → Prop} (hR : Rm A w τ)
    (h1 : OUT p T1 S1 S1' a1 t1 N1 cm1 (tmJ e G1 F) w τ) (hC : ∀ Q X, cm1 (fun v u => cm2 v u Q X) X → cm Q X) (hN1 : ∀ v v' u σ, N1 v v' u σ → v'.2 = 1)
    (h2 : ∀ v q u σ, RB p u σ → N1 v (q, 1) u σ → CF p T1 S1 S1' w τ u σ → Rm (A - a1) u σ → OUTb p b0 T S S' (a - a1) (t - a1) N (cm2 v u) (tmG e G (fun I QF => G1 I QF q σ)) u σ)
    (hTT : ∀ r, r ∈ T1 → r ∈ T ∨ b0 < r := by first | exact fun r hr => Or.inl hr | (intro r hr; cases hr)) (hS : ∀ f, f ∈ S1 → f ∈ S := by first | decide | exact fun f hf => hf | (intro f hf; cases hf; done)) (hS' : ∀ f, f ∈ S1' → f ∈ S' := by first | decide | exact fun f hf => hf | (intro f hf; cases hf; done)) (ht : t1 ≤ t := by decide) : OUTb p b0 T S S' a t N cm (tmJ e G F) w τ := by
  refine OUTb.bd0 (tm2 := fun v σ Q => (v.2 = 1 → tI σ 7 = 0 → tI σ 3 ≠ 7 → tmG e G (fun I QF => G1 I QF v.1 σ) Q) ∧ (v.2 = 0 → ∀ QF : PQ, (∀ x u, Q (x, 0) u → RG u x → QF x u) → RG σ v.1 → QF v.1 σ)) hR h1 hC (fun Q b1 τ1 run h J QF j1 j2 => ?_) (fun v v' u σ rb n c r => ?_) (fun h pl v' σ D F => ?_) hTT hS hS' ht
  · refine run (fun b u => b = b1 ∧ u = τ1) ⟨rfl, rfl⟩ J QF (fun v x4 u kk => j1 v x4 u (fun I cl kA => kk I cl (fun q u hq a c => ?_))) (fun x u hq hr => ?_)
    · obtain ⟨q1, q2⟩ := hq
      subst q1
      subst q2
      exact h.1 rfl a c I QF cl kA j2
    · obtain ⟨q1, q2⟩ := hq
      subst q1
      subst q2
      exact h.2 rfl QF j2 hr
  · obtain ⟨q, f⟩ := v'
    have hf : f = 1 := hN1 _ _ _ _ n
    subst hf
    exact OUTb.tt (fun Q k => ⟨fun _ _ _ => k, fun y => absurd y (show ¬ ((1 : Int) = 0) by decide)⟩) (h2 v q u σ rb n c r)
  · by_cases z : v'.2 = 0
    · exact DD.ret (b := (v'.1, (0 : Int))) D (fun Q hQ => ⟨fun y => by omega, fun _ QF k hr => k _ _ hQ hr⟩)
    · exact DD.ret (b := ((0 : Int), (0 : Int))) D (fun Q hQ => ⟨fun _ y1 y2 => by
        rcases D.cs with x | x
        · exact absurd y1 x
        · exact absurd x.2 y2, fun y => absurd y z⟩)
/-- a call of both within a loop of the component's, while what begins is at work -/
theorem OUTb.kJV {ι α α1 β1 : Type} {b0 : Nat} {T S S' T1 S1 S1' : List Nat} {A a1 t1 a t : Int} {N : α → Int × Int → CW → TW → Prop} {N1 : α1 → β1 → CW → TW → Prop} {L FC : (α → CW → Prop) → (Nat → CW → Prop) → ι → Prop} {F2 : CW → (α → CW → Prop) → (Nat → CW → Prop) → ι → Prop} {cm1 : (α1 → CW → Prop) → (Nat → CW → Prop) → Prop} {tm1 : (β1 → TW → Prop) → Prop} {G : PI → PQ → Int → TW → Prop} {F : PI → PQ → Prop} {FT2 : TW → PI → PQ → Prop} (hR : Rm A w τ)
    (h1 : OUT p T1 S1 S1' a1 t1 N1 cm1 tm1 w τ) (hC : ∀ Q X I, L Q X I → cm1 (fun _ u => F2 u Q X I) X → FC Q X I) (hT : ∀ I QF, True → tm1 (fun _ σ => FT2 σ I QF) → F I QF)
    (h2 : ∀ v v' u σ, RB p u σ → N1 v v' u σ → CF p T1 S1 S1' w τ u σ → Rm (A - a1) u σ → OUTb p b0 T S S' (a - a1) (t - a1) N (cmG L (F2 u)) (tmJ e G (FT2 σ)) u σ)
    (hd : ∀ h pl σ, Dd h pl σ → FT S1' τ σ → DD S' h pl (tmJ e G (FT2 σ)) σ)
    (hTT : ∀ r, r ∈ T1 → r ∈ T ∨ b0 < r := by first | exact fun r hr => Or.inl hr | (intro r hr; cases hr)) (hS : ∀ f, f ∈ S1 → f ∈ S := by first | decide | exact fun f hf => hf | (intro f hf; cases hf; done)) (hS' : ∀ f, f ∈ S1' → f ∈ S' := by first | decide | exact fun f hf => hf | (intro f hf; cases hf; done)) (ht : t1 ≤ t := by decide) : OUTb p b0 T S S' a t N (cmG L FC) (tmJ e G F) w τ :=
  OUTb.bd00 (cm2 := fun _ u => cmG L (F2 u)) (tm2 := fun _ σ => tmJ e G (FT2 σ)) hR h1 (fun Q X _ _ run k I l => hC Q X I l (run _ (k I l))) (fun Q X k I l => hC Q X I l (k _)) (fun Q b1 τ1 run h I QF h1 h2 => hT I QF trivial (run _ (h I QF h1 h2))) (fun v v' u σ => h2 v v' u σ) (fun h pl _ σ => hd h pl σ) hTT hS hS' ht
/-- a pattern with its as -/
def PA (p b n : Nat) (τ : TW) (s : Int) (o : Nat) (r : Nat) (v : Int × Int) (w' : CW) (τ' : TW) : Prop := v = (((np τ : Nat) : Int), 1) ∧ PS p w' τ' o ∧ np τ < np τ' ∧ tA τ' 18 (np τ) = s ∧ tA τ' 23 (np τ) = -4 ∧ UT τ τ' o ∧ nR τ' = nR τ ∧ ∃ D, PRel p b w' τ' (SnR τ') (n + 1) (np τ') r (np τ) D ∧ BN τ τ' D
abbrev PTN (p b e n M : Nat) (w : CW) (τ : TW) (s much : Int) (o : Nat) : Prop := OUT p [fR w 15 p, fR w 16 p] SPC SPT (-5700) 400 (fun r v w' τ' => much = 0 ∧ PA p b n τ s o r v w' τ') (fun Q X => wpC p M 22 [ar p, ai s] w (zqR Q X)) (tmJ e (gA e) (fun I _ => wpT (e + 8) 25 [ai s, ai much] τ (zqI (fun v u => I v o u) zno))) w τ
theorem PA.one {p b n : Nat} {τ : TW} {s : Int} {o r : Nat} {v : Int × Int} {w' : CW} {τ' : TW} (h : PA p b n τ s o r v w' τ') : v.2 = 1 := by rw [h.1]
theorem PN.one {p b n : Nat} {τ : TW} {s : Int} {o r : Nat} {v : Int × Int} {w' : CW} {τ' : TW} (h : PN p b n τ s o r v w' τ') : v.2 = 1 := by rw [h.1]
/-- a dead readAs -/
theorem dd_as {h pl : Int} {q x4 : Int} (D : Dd h pl τ) (h0 : tI τ 7 ≠ 0) : DD SPT h pl (tmG e (gA e) (fun I QF => pT_readAs_51 (wpT (e + 7)) (fun u => rpA (wpT (e + 8)) QF I q x4 u) τ)) τ :=
  DD.iE (x := q) D (fun I QF cl k => bT_readAs_51 (br0 h0 (bT_readAs_62 (br0 h0 (bT_readPattern_208 k))))) (Or.inl h0)
/-- a row of one pattern, around another -/
def eiW (w : CW) (r : Nat) : CW := pR (pI (qR (nA (nO w 9 2) 114 1) (cz w + 2) 0 r) 68 (cz w + 1) (-1)) 73 (cz w + 1) (cz w + 2)
theorem eiW_fr (W : WF p w) (r : Nat) {w' : CW} (hw : w' = eiW w r) : Fr [] w w' ∧ WF p w' ∧ cz w' = cz w + 2 ∧ cu w' = cu w + 3 ∧ tg w' (cz w + 1) = 9 ∧ fI w' 68 (cz w + 1) = -1 ∧ fR w' 73 (cz w + 1) = cz w + 2 ∧ tg w' (cz w + 2) = 114 ∧ ln w' (cz w + 2) = 1 ∧ aR w' (cz w + 2) 0 = r := by
  subst hw
  refine ⟨?_, ?_, rfl, rfl, ?_, ?_, ?_, ?_, ?_, ?_⟩
  · exact (((((Fr.refl [] w).snO).snA).sqR (Or.inr (by omega))).spI (Or.inr (by omega))).spR (Or.inr (by omega))
  · exact ((((W.snO 9 2).snA 114 1).sqR _ _ _).spI _ _ _).spR _ _ _
  · unfold eiW; simp [fI_pI, fR_pI, aI_pI, aR_pI, tg_pI, ln_pI, cz_pI, cu_pI, mz_pI, mu_pI, sr_pI, fI_pR, fR_pR, aI_pR, aR_pR, tg_pR, ln_pR, cz_pR, cu_pR, mz_pR, mu_pR, sr_pR, fI_qI, fR_qI, aI_qI, aR_qI, tg_qI, ln_qI, cz_qI, cu_qI, mz_qI, mu_qI, sr_qI, fI_qR, fR_qR, aI_qR, aR_qR, tg_qR, ln_qR, cz_qR, cu_qR, mz_qR, mu_qR, sr_qR, fI_nO, fR_nO, aI_nO, aR_nO, tg_nO, ln_nO, cz_nO, cu_nO, mz_nO, mu_nO, sr_nO, fI_nA, fR_nA, aI_nA, aR_nA, tg_nA, ln_nA, cz_nA, cu_nA, mz_nA, mu_nA, sr_nA, Nat.reduceEqDiff, Nat.reduceEqDiff, Nat.left_eq_add, Nat.add_eq_left, Nat.add_left_cancel_iff, false_and, true_and, and_true, and_false, if_true, if_false, ite_true, ite_false, reduceIte]
  · unfold eiW; simp [fI_pI, fR_pI, aI_pI, aR_pI, tg_pI, ln_pI, cz_pI, cu_pI, mz_pI, mu_pI, sr_pI, fI_pR, fR_pR, aI_pR, aR_pR, tg_pR, ln_pR, cz_pR, cu_pR, mz_pR, mu_pR, sr_pR, fI_qI, fR_qI, aI_qI, aR_qI, tg_qI, ln_qI, cz_qI, cu_qI, mz_qI, mu_qI, sr_qI, fI_qR, fR_qR, aI_qR, aR_qR, tg_qR, ln_qR, cz_qR, cu_qR, mz_qR, mu_qR, sr_qR, fI_nO, fR_nO, aI_nO, aR_nO, tg_nO, ln_nO, cz_nO, cu_nO, mz_nO, mu_nO, sr_nO, fI_nA, fR_nA, aI_nA, aR_nA, tg_nA, ln_nA, cz_nA, cu_nA, mz_nA, mu_nA, sr_nA, Nat.reduceEqDiff, Nat.reduceEqDiff, Nat.left_eq_add, Nat.add_eq_left, Nat.add_left_cancel_iff, false_and, true_and, and_true, and_false, if_true, if_false, ite_true, ite_false, reduceIte]
  · unfold eiW; simp [fI_pI, fR_pI, aI_pI, aR_pI, tg_pI, ln_pI, cz_pI, cu_pI, mz_pI, mu_pI, sr_pI, fI_pR, fR_pR, aI_pR, aR_pR, tg_pR, ln_pR, cz_pR, cu_pR, mz_pR, mu_pR, sr_pR, fI_qI, fR_qI, aI_qI, aR_qI, tg_qI, ln_qI, cz_qI, cu_qI, mz_qI, mu_qI, sr_qI, fI_qR, fR_qR, aI_qR, aR_qR, tg_qR, ln_qR, cz_qR, cu_qR, mz_qR, mu_qR, sr_qR, fI_nO, fR_nO, aI_nO, aR_nO, tg_nO, ln_nO, cz_nO, cu_nO, mz_nO, mu_nO, sr_nO, fI_nA, fR_nA, aI_nA, aR_nA, tg_nA, ln_nA, cz_nA, cu_nA, mz_nA, mu_nA, sr_nA, Nat.reduceEqDiff, Nat.reduceEqDiff, Nat.left_eq_add, Nat.add_eq_left, Nat.add_left_cancel_iff, false_and, true_and, and_true, and_false, if_true, if_false, ite_true, ite_false, reduceIte]
  · unfold eiW; simp [fI_pI, fR_pI, aI_pI, aR_pI, tg_pI, ln_pI, cz_pI, cu_pI, mz_pI, mu_pI, sr_pI, fI_pR, fR_pR, aI_pR, aR_pR, tg_pR, ln_pR, cz_pR, cu_pR, mz_pR, mu_pR, sr_pR, fI_qI, fR_qI, aI_qI, aR_qI, tg_qI, ln_qI, cz_qI, cu_qI, mz_qI, mu_qI, sr_qI, fI_qR, fR_qR, aI_qR, aR_qR, tg_qR, ln_qR, cz_qR, cu_qR, mz_qR, mu_qR, sr_qR, fI_nO, fR_nO, aI_nO, aR_nO, tg_nO, ln_nO, cz_nO, cu_nO, mz_nO, mu_nO, sr_nO, fI_nA, fR_nA, aI_nA, aR_nA, tg_nA, ln_nA, cz_nA, cu_nA, mz_nA, mu_nA, sr_nA, Nat.reduceEqDiff, Nat.reduceEqDiff, Nat.left_eq_add, Nat.add_eq_left, Nat.add_left_cancel_iff, false_and, true_and, and_true, and_false, if_true, if_false, ite_true, ite_false, reduceIte]
  · unfold eiW; simp [fI_pI, fR_pI, aI_pI, aR_pI, tg_pI, ln_pI, cz_pI, cu_pI, mz_pI, mu_pI, sr_pI, fI_pR, fR_pR, aI_pR, aR_pR, tg_pR, ln_pR, cz_pR, cu_pR, mz_pR, mu_pR, sr_pR, fI_qI, fR_qI, aI_qI, aR_qI, tg_qI, ln_qI, cz_qI, cu_qI, mz_qI, mu_qI, sr_qI, fI_qR, fR_qR, aI_qR, aR_qR, tg_qR, ln_qR, cz_qR, cu_qR, mz_qR, mu_qR, sr_qR, fI_nO, fR_nO, aI_nO, aR_nO, tg_nO, ln_nO, cz_nO, cu_nO, mz_nO, mu_nO, sr_nO, fI_nA, fR_nA, aI_nA, aR_nA, tg_nA, ln_nA, cz_nA, cu_nA, mz_nA, mu_nA, sr_nA, Nat.reduceEqDiff, Nat.reduceEqDiff, Nat.left_eq_add, Nat.add_eq_left, Nat.add_left_cancel_iff, false_and, true_and, and_true, and_false, if_true, if_false, ite_true, ite_false, reduceIte]
  · unfold eiW; simp [fI_pI, fR_pI, aI_pI, aR_pI, tg_pI, ln_pI, cz_pI, cu_pI, mz_pI, mu_pI, sr_pI, fI_pR, fR_pR, aI_pR, aR_pR, tg_pR, ln_pR, cz_pR, cu_pR, mz_pR, mu_pR, sr_pR, fI_qI, fR_qI, aI_qI, aR_qI, tg_qI, ln_qI, cz_qI, cu_qI, mz_qI, mu_qI, sr_qI, fI_qR, fR_qR, aI_qR, aR_qR, tg_qR, ln_qR, cz_qR, cu_qR, mz_qR, mu_qR, sr_qR, fI_nO, fR_nO, aI_nO, aR_nO, tg_nO, ln_nO, cz_nO, cu_nO, mz_nO, mu_nO, sr_nO, fI_nA, fR_nA, aI_nA, aR_nA, tg_nA, ln_nA, cz_nA, cu_nA, mz_nA, mu_nA, sr_nA, Nat.reduceEqDiff, Nat.reduceEqDiff, Nat.left_eq_add, Nat.add_eq_left, Nat.add_left_cancel_iff, false_and, true_and, and_true, and_false, if_true, if_false, ite_true, ite_false, reduceIte]
theorem sC_either {r : Nat} {w' : CW} (hw : w' = eiW w r) {Q : ZRes → CW → Prop} (hQ : Q (.inl none) w') : wpC p (d + 2) 107 [ar (cz w + 1), ar (cz (nO w 9 2) + 1)] (qR (nA (nO w 9 2) 114 (Int.toNat 1)) (cz (nO w 9 2) + 1) 0 r) Q := by
  subst hw
  exact sC_iEither (by omega) (by simp [fI_pI, fR_pI, aI_pI, aR_pI, tg_pI, ln_pI, cz_pI, cu_pI, mz_pI, mu_pI, sr_pI, fI_pR, fR_pR, aI_pR, aR_pR, tg_pR, ln_pR, cz_pR, cu_pR, mz_pR, mu_pR, sr_pR, fI_qI, fR_qI, aI_qI, aR_qI, tg_qI, ln_qI, cz_qI, cu_qI, mz_qI, mu_qI, sr_qI, fI_qR, fR_qR, aI_qR, aR_qR, tg_qR, ln_qR, cz_qR, cu_qR, mz_qR, mu_qR, sr_qR, fI_nO, fR_nO, aI_nO, aR_nO, tg_nO, ln_nO, cz_nO, cu_nO, mz_nO, mu_nO, sr_nO, fI_nA, fR_nA, aI_nA, aR_nA, tg_nA, ln_nA, cz_nA, cu_nA, mz_nA, mu_nA, sr_nA, Nat.reduceEqDiff, Nat.reduceEqDiff, Nat.left_eq_add, Nat.add_eq_left, Nat.add_left_cancel_iff, false_and, true_and, and_true, and_false, if_true, if_false, ite_true, ite_false, reduceIte]) hQ
theorem zst_p {t : Nat} (h : 6 ≤ t ∧ t ≤ 12) : zst 114 t = true := by
  have : ∀ k : Fin 13, 6 ≤ k.val → zst 114 k.val = true := by decide +kernel
  exact this ⟨t, by omega⟩ h.1
theorem hF68 {t : Nat} (h : 6 ≤ t ∧ t ≤ 12) : hF 68 t = true := by
  have : ∀ k : Fin 13, 6 ≤ k.val → hF 68 k.val = true := by decide +kernel
  exact this ⟨t, by omega⟩ h.1
theorem hP68 {t : Nat} (h : 6 ≤ t ∧ t ≤ 12) : hP 68 t = true := by
  have : ∀ k : Fin 13, 6 ≤ k.val → hP 68 k.val = true := by decide +kernel
  exact this ⟨t, by omega⟩ h.1
theorem pt_pattern {M n o : Nat} {s much : Int} (hb : b ≤ cz w) (rb : RB p w τ) (h : PS p (pI w 20 p 0) τ o) (hmuch : much = if ¬ ((fI w 20 p) = 0) ∨ (¬ ((fI w 19 p) < 6)) then 1 else 0) (hM : 14 ≤ M) (hR : Rm 2000 w τ) (hP : PLN p (cz w) e n M (pI w 20 p 0) τ s much o) : PTN p b e n (M + 1) w τ s much o := by
  obtain ⟨M', rfl⟩ : ∃ M', M = M' + 14 := ⟨M - 14, by omega⟩
  obtain ⟨w1, hw1⟩ : ∃ w1, w1 = pI w 20 p 0 := ⟨_, rfl⟩
  rw [← hw1] at h hP
  have f15 : fR w1 15 p = fR w 15 p ∧ fR w1 16 p = fR w 16 p := by rw [hw1]; exact ⟨rfl, rfl⟩
  refine OUTb.go (OUTb.cM (T1 := []) (S1 := [20]) (k := 0) (w' := w1) hR rb (by rw [hw1]; exact (Fr.refl _ _).spI (Or.inl (by simp))) (by rw [hw1]; exact (PF.refl _ _ _).spI (Or.inl (by simp))) (by rw [hw1]; exact rb.1.spI _ _ _) (by rw [hw1]; exact Int.le_of_eq (by rfl)) (by decide) (fun Q X hh => wC_X0_pattern (Nat.zero_le _) (bC_X0_pattern_0 (fa (fun u hu => by rw [hu, ← hw1, ← hmuch]; exact hh)))) (fun r hr => by cases hr) (fun rb1 c1 hR1 => ?_))
  refine OUTb.jN (G := gA e) hR1 hP (fun Q X hh => hh) (fun v v' u σ n => n.2.one) (fun r q u σ rb2 n2 c2 hR2 => ?_) (hTT := fun r hr => Or.inl (by rw [← f15.1, ← f15.2]; exact hr))
  obtain ⟨hm0, hv, hs2, hlt, m18, m23, m25, U2, eR2, D, pr, bn⟩ := n2
  have hq : q = ((np τ : Nat) : Int) := congrArg Prod.fst hv
  subst hq
  have rg2 := rb2.rg
  have n2p : np σ < 1700 := by have := hs2.2.2.2.2.1; have : tI σ 5 = tI σ 5 := rfl; omega
  refine OUTb.iT (fun I QF cl k => cl _ _ _ (br1 rb2.f0 (br1 (Int.le_refl _) (wT_readAs (by omega) (bT_readAs_0 k))))) ?_
  by_cases has : ff_isWord 4 σ = 0
  · exact OUTb.cc (fun Q X hh => rb2.word 12 4 rfl (by decide) (br1 has hh)) (OUTb.iR (v := r) (q := np τ) rb2 ⟨hm0, rfl, hs2, hlt, m18, m23, U2, eR2, D, pr.base rb2.1 hb, bn⟩ (fun Q X hh => hh) (fun I QF cl k => br0 (fun y => y.2 has) (bT_readAs_62 k)))
  · have hsrt := (wd_1 has).2.1
    refine OUTb.cc (fun Q X hh => rb2.word 12 4 rfl (by decide) (br0 has hh)) (OUTb.iT (fun I QF cl k => br1 ⟨rb2.f0, has⟩ k) ?_)
    refine OUTb.iBV hR2 (OUT.nx1 (d := M' + 2) (e := e + 3) rb2 (by omega) (hR2.le (by decide))) (fun Q X hh => hh) (fun I QF cl k => k) (fun _ _ w3 σ3 rb3 hfr c3 hR3 => ?_) (fun h pl σ3 D3 F3 => ?_)
    · have hr3 := Rm.room rb3 hR3 (k := 1) (n := 8) (by decide)
      have ty3 : fI w3 10 p = tI σ3 3 := rb3.ty
      have qr : (0 : Int) ≤ np τ ∧ (np τ : Int) < 1700 := by omega
      by_cases h1 : tI σ3 3 = 1
      · have N3 : NmR p w3 σ3 := hs2.2.2.1.on rb2.1 c3
        have ew : fI w3 12 p = tI σ3 4 := rb3.wd (Or.inl h1)
        have e18 : tA σ3 18 (np τ) = s := ((c3.2.2.2.1 18 (by decide)).2 _).trans m18
        rcases nm_cases N3 (tI σ3 4) with X3 | hX
        · -- it is bound already
          obtain ⟨σ4, q1, q2, q3, run⟩ := sT_bindsX3 (d := e + 5) (s := s) rb3 N3 X3
          obtain ⟨n0, a1, a2, a3⟩ := X3
          refine OUTb.thr rb3 (fun Q X hh => fa (sC_want (by rw [if_pos (ty3.trans h1)]; decide) (wC_X0_binds (Nat.zero_le _) (bC_X0_binds_0 (sC_nameAt N3 n0 (Or.inr (by rw [ew]; exact a2)) (rb3.needNo (if_neg (by
            rintro (y | y)
            · omega
            · have a3' : bit (tI σ3 31) n0 = 1 := a3
              omega)) hr3 hh)))))) (DD.iP (σ := sA σ4 25 (np τ) (-4)) (S1 := [7, 8, 25]) ((q1.mono (by decide)).trans ((FT.refl _ _).ssA (by decide))) (fun I QF cl k => br1 h1 ⟨qr, by rw [e18]; exact run _ ⟨qr, fa k⟩⟩) (dd_as (q := np τ) (x4 := tI σ 32) (q2.ft (S := [25]) ((FT.refl _ _).ssA (by decide)) (by decide)) q3))
        have hno : (nmB σ3 (tI σ3 4) = -4 ∧ nN σ3 = 8) ∨ ∃ n0, n0 < 8 ∧ ((nmB σ3 (tI σ3 4) = -4 ∧ n0 = nN σ3) ∨ nmB σ3 (tI σ3 4) = (n0 : Nat)) ∧ bit (tI σ3 31) n0 = 0 := by
          rcases hX with y | ⟨n0, a1, a2, a3, a4⟩
          · exact Or.inl y
          · exact Or.inr ⟨n0, a1, a3, a4⟩
        rcases hno with ⟨x1, x2⟩ | ⟨n0, h8, a3, a4⟩
        · -- no room for it
          obtain ⟨σ4, q1, q2, q3, run⟩ := sT_bindsX9 (d := e + 5) (s := s) rb3 N3 ⟨x1, x2⟩
          refine OUTb.thr rb3 (fun Q X hh => fa (sC_want (by rw [if_pos (ty3.trans h1)]; decide) (wC_X0_binds (Nat.zero_le _) (bC_X0_binds_0 (sC_nameAt N3 8 (Or.inl ⟨by rw [ew]; exact x1, x2.symm⟩) (sC_needOk (by rw [if_pos (Or.inl (by omega))]; decide) (sC_bindNo rfl hr3 (by rw [show fI w3 11 p = tI σ3 5 from rb3.pl]; exact hh)))))))) (DD.iP (σ := sA σ4 25 (np τ) (-4)) (S1 := [7, 8, 25]) ((q1.mono (by decide)).trans ((FT.refl _ _).ssA (by decide))) (fun I QF cl k => br1 h1 ⟨qr, by rw [e18]; exact run _ ⟨qr, fa k⟩⟩) (dd_as (q := np τ) (x4 := tI σ 32) (q2.ft (S := [25]) ((FT.refl _ _).ssA (by decide)) (by decide)) q3))
        · -- it is bound now
          have hb9 : (if (n0 : Int) = nN σ3 ∨ bit (tI σ3 31) n0 = 0 then (1 : Int) else 0) ≠ 0 := by
            rw [if_pos (Or.inr a4)]
            decide
          have a3w : (nmB σ3 (fI w3 12 p) = -4 ∧ n0 = nN σ3) ∨ nmB σ3 (fI w3 12 p) = (n0 : Nat) := by rw [ew]; exact a3
          have a3b : (nmB σ3 (tI σ3 4) = -4 ∧ n0 = nN σ3) ∨ (nmB σ3 (tI σ3 4) = n0 ∧ bit (tI σ3 31) n0 = 0) := by
            rcases a3 with y | y
            · exact Or.inl y
            · exact Or.inr ⟨y, a4⟩
          obtain ⟨w4, hw4⟩ : ∃ w4, w4 = bdW p w3 n0 s := ⟨_, rfl⟩
          obtain ⟨σ4, hσ4⟩ : ∃ σ4, σ4 = bdT σ3 n0 s := ⟨_, rfl⟩
          obtain ⟨bF, bP, bW, bz, bu⟩ := bdW_fr rb3.1 n0 s
          obtain ⟨N4, eR4, eN4⟩ := N3.bind (s := s) a3 h8 ew
          obtain ⟨B1, B2, B3⟩ := BN.bind (s := s) N3 a3 h8 a4 ew o
          have bT := bdT_ft σ3 n0 s
          rw [← hw4] at bF bP bW bz bu N4
          rw [← hσ4] at N4 eR4 eN4 B1 B2 B3 bT
          have hA3 := N3.1
          have f153 : fR w3 15 p = fR w 15 p ∧ fR w3 16 p = fR w 16 p := ⟨((c3.2.1 15 (by decide)).2.trans (c2.2.1 15 (by decide)).2).trans f15.1, ((c3.2.1 16 (by decide)).2.trans (c2.2.1 16 (by decide)).2).trans f15.2⟩
          refine OUTb.iM (τ' := σ4) hR3 rb3 bT (fun I QF cl k => br1 h1 ⟨qr, by rw [e18]; exact sT_binds' (d := e + 5) N3 rb3.f0 a3b h8 hσ4 ⟨qr, k⟩⟩) (fun rb4 hR4 => ?_)
          refine OUTb.iW (S1 := [25]) hR4 rb4 (sA σ4 25 (np τ) n0) ((FT.refl _ _).ssA (by decide)) (fun I QF k => k) (fun σ5 e5' rb5 G5 hR5 => ?_)
          have s53 : tI σ5 3 = 1 := by rw [(G5 3 (by decide)).1, (bT 3 (by decide)).1]; exact h1
          refine OUTb.cM (T1 := [fR w3 15 p, fR w3 16 p]) (S1 := [17, 18]) (k := 0) (w' := w4) hR5 rb5 bF bP bW (by unfold zm; rw [bz, bu]; omega) (by decide) (fun Q X hh => fa (sC_want (by rw [if_pos (ty3.trans h1)]; decide) (wC_X0_binds (Nat.zero_le _) (bC_X0_binds_0 (sC_nameAt N3 n0 a3w (sC_needOk hb9 (sC_bind' N3 h8 hw4 hh))))))) (fun r hr => ?_) (fun rb6 c6 hR6 => ?_)
          · have z15 := rb3.1.le (r := fR w3 15 p) (by rw [hA3.1.1]; decide)
            have z16 := rb3.1.le (r := fR w3 16 p) (by rw [hA3.2.1]; decide)
            rw [← f153.1, ← f153.2]
            refine ⟨Or.inl hr, ?_⟩
            simp only [List.mem_cons, List.not_mem_nil, or_false] at hr
            rcases hr with y | y
            · rw [y]; exact ⟨Nat.le_of_lt hA3.1.2.2.1, Or.inr ⟨by rw [hA3.1.1]; decide, z15⟩⟩
            · rw [y]; exact ⟨Nat.le_of_lt hA3.2.2.2.1, Or.inr ⟨by rw [hA3.2.1]; decide, z16⟩⟩
          refine OUTb.iBV hR6 (OUT.nx1 (d := M' + 2) (e := e + 3) rb6 (by rw [s53]; decide) (hR6.le (by decide))) (fun Q X hh => hh) (fun I QF cl k => bT_readAs_51 (br1 rb6.f0 k)) (fun _ _ w5 σ6 rb7 hfr5 c7 hR7 => ?_) (fun hw7 pl σ7 D7 F7 => ?_)
          · have hr7 := Rm.room rb7 hR7 (k := 2) (n := 3) (by decide)
            obtain ⟨hnm0, core⟩ := pr.root m25
            have htg := core.tg
            have hbr := core.2.1
            have hrz := rb2.1.le (r := r) (by omega)
            have kz := h.2.1.1.2.2.2.2
            have cz1 : cz w1 = cz w := by rw [hw1]; rfl
            have hpz := rb.1.pz
            -- r and all stays up to w5
            have nin : ∀ x, p + 8 < x → x ∉ p :: [fR w3 15 p, fR w3 16 p] := by
              intro x hx y
              have g1 := hA3.1.2.2.2
              have g2 := hA3.2.2.2.2
              simp only [List.mem_cons, List.not_mem_nil, or_false] at y
              omega
            have Fr25 : Fr (p :: [fR w3 15 p, fR w3 16 p]) u w5 := ((c3.1.mono (fun x hx => Or.inl (by simp at hx ⊢; omega))).trans (bF.mono (fun x hx => Or.inl (by simp at hx ⊢; omega)))).trans (c7.1.mono (fun x hx => Or.inl (by simp at hx ⊢; omega)))
            have o5 := Fr25.2.2.2.2 r hrz (nin r (by omega))
            have t5 : tg w5 r = tg u r := ob.etg o5
            have g5 : fI w5 68 r = if tA σ 24 (np τ) = -4 then -1 else tA σ 24 (np τ) := (ob.efI o5 68).trans core.2.2.1
            obtain ⟨w6, hw6⟩ : ∃ w6, w6 = eiW w5 r := ⟨_, rfl⟩
            obtain ⟨k1, k2, k3, k4, k5, k6, k7, k8, k9, k10⟩ := eiW_fr rb7.1 r hw6
            have hcz5 := Fr25.1
            have o6 := k1.2.2.2.2 r (by omega) (by simp)
            have g6 : fI w6 68 r = if tA σ 24 (np τ) = -4 then -1 else tA σ 24 (np τ) := (ob.efI o6 68).trans g5
            have t6 : tg w6 r = tg u r := (ob.etg o6).trans t5
            have tn : tg (nA (nO w5 9 2) 114 (Int.toNat 1)) r = tg u r := ((((Fr.refl [] w5).snO (t := 9) (n := 2)).snA (t := 114) (n := Int.toNat 1)).2.2.2.1 r (by omega)).1.trans t5
            refine OUTb.nw (A0 := 2) (B0 := 3) (k := 13) (w' := w6) hR7 rb7 k1 k2 k3 k4 (by decide) (fun Q X hh => ⟨⟨by omega, by omega⟩, fa ⟨⟨⟨by decide, by decide⟩, (by first | omega | (simp [fI_pI, fR_pI, aI_pI, aR_pI, tg_pI, ln_pI, cz_pI, cu_pI, mz_pI, mu_pI, sr_pI, fI_pR, fR_pR, aI_pR, aR_pR, tg_pR, ln_pR, cz_pR, cu_pR, mz_pR, mu_pR, sr_pR, fI_qI, fR_qI, aI_qI, aR_qI, tg_qI, ln_qI, cz_qI, cu_qI, mz_qI, mu_qI, sr_qI, fI_qR, fR_qR, aI_qR, aR_qR, tg_qR, ln_qR, cz_qR, cu_qR, mz_qR, mu_qR, sr_qR, fI_nO, fR_nO, aI_nO, aR_nO, tg_nO, ln_nO, cz_nO, cu_nO, mz_nO, mu_nO, sr_nO, fI_nA, fR_nA, aI_nA, aR_nA, tg_nA, ln_nA, cz_nA, cu_nA, mz_nA, mu_nA, sr_nA, Nat.reduceEqDiff, Nat.reduceEqDiff, Nat.left_eq_add, Nat.add_eq_left, Nat.add_left_cancel_iff, false_and, true_and, and_true, and_false, if_true, if_false, ite_true, ite_false, reduceIte]; done) | (simp [fI_pI, fR_pI, aI_pI, aR_pI, tg_pI, ln_pI, cz_pI, cu_pI, mz_pI, mu_pI, sr_pI, fI_pR, fR_pR, aI_pR, aR_pR, tg_pR, ln_pR, cz_pR, cu_pR, mz_pR, mu_pR, sr_pR, fI_qI, fR_qI, aI_qI, aR_qI, tg_qI, ln_qI, cz_qI, cu_qI, mz_qI, mu_qI, sr_qI, fI_qR, fR_qR, aI_qR, aR_qR, tg_qR, ln_qR, cz_qR, cu_qR, mz_qR, mu_qR, sr_qR, fI_nO, fR_nO, aI_nO, aR_nO, tg_nO, ln_nO, cz_nO, cu_nO, mz_nO, mu_nO, sr_nO, fI_nA, fR_nA, aI_nA, aR_nA, tg_nA, ln_nA, cz_nA, cu_nA, mz_nA, mu_nA, sr_nA, Nat.reduceEqDiff, Nat.reduceEqDiff, Nat.left_eq_add, Nat.add_eq_left, Nat.add_left_cancel_iff, false_and, true_and, and_true, and_false, if_true, if_false, ite_true, ite_false, reduceIte]; omega)), (by first | omega | (simp [fI_pI, fR_pI, aI_pI, aR_pI, tg_pI, ln_pI, cz_pI, cu_pI, mz_pI, mu_pI, sr_pI, fI_pR, fR_pR, aI_pR, aR_pR, tg_pR, ln_pR, cz_pR, cu_pR, mz_pR, mu_pR, sr_pR, fI_qI, fR_qI, aI_qI, aR_qI, tg_qI, ln_qI, cz_qI, cu_qI, mz_qI, mu_qI, sr_qI, fI_qR, fR_qR, aI_qR, aR_qR, tg_qR, ln_qR, cz_qR, cu_qR, mz_qR, mu_qR, sr_qR, fI_nO, fR_nO, aI_nO, aR_nO, tg_nO, ln_nO, cz_nO, cu_nO, mz_nO, mu_nO, sr_nO, fI_nA, fR_nA, aI_nA, aR_nA, tg_nA, ln_nA, cz_nA, cu_nA, mz_nA, mu_nA, sr_nA, Nat.reduceEqDiff, Nat.reduceEqDiff, Nat.left_eq_add, Nat.add_eq_left, Nat.add_left_cancel_iff, false_and, true_and, and_true, and_false, if_true, if_false, ite_true, ite_false, reduceIte]; done) | (simp [fI_pI, fR_pI, aI_pI, aR_pI, tg_pI, ln_pI, cz_pI, cu_pI, mz_pI, mu_pI, sr_pI, fI_pR, fR_pR, aI_pR, aR_pR, tg_pR, ln_pR, cz_pR, cu_pR, mz_pR, mu_pR, sr_pR, fI_qI, fR_qI, aI_qI, aR_qI, tg_qI, ln_qI, cz_qI, cu_qI, mz_qI, mu_qI, sr_qI, fI_qR, fR_qR, aI_qR, aR_qR, tg_qR, ln_qR, cz_qR, cu_qR, mz_qR, mu_qR, sr_qR, fI_nO, fR_nO, aI_nO, aR_nO, tg_nO, ln_nO, cz_nO, cu_nO, mz_nO, mu_nO, sr_nO, fI_nA, fR_nA, aI_nA, aR_nA, tg_nA, ln_nA, cz_nA, cu_nA, mz_nA, mu_nA, sr_nA, Nat.reduceEqDiff, Nat.reduceEqDiff, Nat.left_eq_add, Nat.add_eq_left, Nat.add_left_cancel_iff, false_and, true_and, and_true, and_false, if_true, if_false, ite_true, ite_false, reduceIte]; omega))⟩, fa ⟨⟨(by first | decide | (simp [fI_pI, fR_pI, aI_pI, aR_pI, tg_pI, ln_pI, cz_pI, cu_pI, mz_pI, mu_pI, sr_pI, fI_pR, fR_pR, aI_pR, aR_pR, tg_pR, ln_pR, cz_pR, cu_pR, mz_pR, mu_pR, sr_pR, fI_qI, fR_qI, aI_qI, aR_qI, tg_qI, ln_qI, cz_qI, cu_qI, mz_qI, mu_qI, sr_qI, fI_qR, fR_qR, aI_qR, aR_qR, tg_qR, ln_qR, cz_qR, cu_qR, mz_qR, mu_qR, sr_qR, fI_nO, fR_nO, aI_nO, aR_nO, tg_nO, ln_nO, cz_nO, cu_nO, mz_nO, mu_nO, sr_nO, fI_nA, fR_nA, aI_nA, aR_nA, tg_nA, ln_nA, cz_nA, cu_nA, mz_nA, mu_nA, sr_nA, Nat.reduceEqDiff, Nat.reduceEqDiff, Nat.left_eq_add, Nat.add_eq_left, Nat.add_left_cancel_iff, false_and, true_and, and_true, and_false, if_true, if_false, ite_true, ite_false, reduceIte]; done) | (simp [fI_pI, fR_pI, aI_pI, aR_pI, tg_pI, ln_pI, cz_pI, cu_pI, mz_pI, mu_pI, sr_pI, fI_pR, fR_pR, aI_pR, aR_pR, tg_pR, ln_pR, cz_pR, cu_pR, mz_pR, mu_pR, sr_pR, fI_qI, fR_qI, aI_qI, aR_qI, tg_qI, ln_qI, cz_qI, cu_qI, mz_qI, mu_qI, sr_qI, fI_qR, fR_qR, aI_qR, aR_qR, tg_qR, ln_qR, cz_qR, cu_qR, mz_qR, mu_qR, sr_qR, fI_nO, fR_nO, aI_nO, aR_nO, tg_nO, ln_nO, cz_nO, cu_nO, mz_nO, mu_nO, sr_nO, fI_nA, fR_nA, aI_nA, aR_nA, tg_nA, ln_nA, cz_nA, cu_nA, mz_nA, mu_nA, sr_nA, Nat.reduceEqDiff, Nat.reduceEqDiff, Nat.left_eq_add, Nat.add_eq_left, Nat.add_left_cancel_iff, false_and, true_and, and_true, and_false, if_true, if_false, ite_true, ite_false, reduceIte]; decide)), by decide, (by first | omega | (simp [fI_pI, fR_pI, aI_pI, aR_pI, tg_pI, ln_pI, cz_pI, cu_pI, mz_pI, mu_pI, sr_pI, fI_pR, fR_pR, aI_pR, aR_pR, tg_pR, ln_pR, cz_pR, cu_pR, mz_pR, mu_pR, sr_pR, fI_qI, fR_qI, aI_qI, aR_qI, tg_qI, ln_qI, cz_qI, cu_qI, mz_qI, mu_qI, sr_qI, fI_qR, fR_qR, aI_qR, aR_qR, tg_qR, ln_qR, cz_qR, cu_qR, mz_qR, mu_qR, sr_qR, fI_nO, fR_nO, aI_nO, aR_nO, tg_nO, ln_nO, cz_nO, cu_nO, mz_nO, mu_nO, sr_nO, fI_nA, fR_nA, aI_nA, aR_nA, tg_nA, ln_nA, cz_nA, cu_nA, mz_nA, mu_nA, sr_nA, Nat.reduceEqDiff, Nat.reduceEqDiff, Nat.left_eq_add, Nat.add_eq_left, Nat.add_left_cancel_iff, false_and, true_and, and_true, and_false, if_true, if_false, ite_true, ite_false, reduceIte]; done) | (simp [fI_pI, fR_pI, aI_pI, aR_pI, tg_pI, ln_pI, cz_pI, cu_pI, mz_pI, mu_pI, sr_pI, fI_pR, fR_pR, aI_pR, aR_pR, tg_pR, ln_pR, cz_pR, cu_pR, mz_pR, mu_pR, sr_pR, fI_qI, fR_qI, aI_qI, aR_qI, tg_qI, ln_qI, cz_qI, cu_qI, mz_qI, mu_qI, sr_qI, fI_qR, fR_qR, aI_qR, aR_qR, tg_qR, ln_qR, cz_qR, cu_qR, mz_qR, mu_qR, sr_qR, fI_nO, fR_nO, aI_nO, aR_nO, tg_nO, ln_nO, cz_nO, cu_nO, mz_nO, mu_nO, sr_nO, fI_nA, fR_nA, aI_nA, aR_nA, tg_nA, ln_nA, cz_nA, cu_nA, mz_nA, mu_nA, sr_nA, Nat.reduceEqDiff, Nat.reduceEqDiff, Nat.left_eq_add, Nat.add_eq_left, Nat.add_left_cancel_iff, false_and, true_and, and_true, and_false, if_true, if_false, ite_true, ite_false, reduceIte]; omega))⟩, Or.inr (by rw [tn, show tg (nA (nO w5 9 2) 114 (Int.toNat 1)) (cz (nO w5 9 2) + 1) = 114 from if_pos rfl]; exact zst_p htg), fa (sC_either (d := M' + 12) hw6 hh)⟩⟩⟩) (fun rb8 c8 hR8 => ?_)
            -- rows of the reference, from σ to σ6
            have FB : FT [25, 28, 29, 30, 31] σ3 σ5 := (bT.mono (by decide)).trans (G5.mono (by decide))
            have FC : FT [2, 3, 4, 5, 6, 25, 28, 29, 30, 31] σ σ6 := ((c3.2.2.2.1.mono (by decide)).trans (FB.mono (by decide))).trans (c7.2.2.2.1.mono (by decide))
            have e25 : ∀ x : Nat, tA σ6 25 x = if x = np τ then (n0 : Int) else tA σ 25 x := by
              intro x
              rw [(c7.2.2.2.1 25 (by decide)).2, e5', tA_sA, (bT 25 (by decide)).2, (c3.2.2.2.1 25 (by decide)).2]
              by_cases z : x = np τ
              · rw [if_pos ⟨rfl, by omega⟩, if_pos z]
              · rw [if_neg (by omega), if_neg z]
            have eP6 : np σ6 = np σ := np_ft FC (by decide)
            have eR6 : nR σ6 = nR σ := nR_ft FC (by decide)
            have eR3 : nR σ3 = nR σ := nR_ft c3.2.2.2.1 (by decide)
            have eP3 : np σ3 = np σ := np_ft c3.2.2.2.1 (by decide)
            have U6 : UT τ σ6 o := (((U2.trans (UT.ft c3.2.2.2.1 (by decide) o) (by omega) eR2).trans B3 (by omega) (by rw [eR3]; exact eR2)).wr (by decide) e5').trans (UT.ft c7.2.2.2.1 (by decide) o) (by rw [np_ft G5 (by decide), np_ft bT (by decide)]; omega) (by rw [nR_ft G5 (by decide), eR4, eR3]; exact eR2)
            have z32 : tI σ6 32 = tI σ 32 := (FC 32 (by decide)).1
            have n0D : ¬ D n0 := by
              intro hk
              have j4 : bit (tI σ 31) n0 = 1 := (bn.2.2.2.1 n0 h8).mpr (Or.inr hk)
              rw [(c3.2.2.2.1 31 (by decide)).1] at a4
              omega
            have Sn : ∀ k, D k → SnR σ6 k = SnR σ k := by
              intro k hk
              obtain ⟨j1, j2⟩ := bn.2.2.1 k hk
              have j3 := hs2.2.2.1.2.2.2.2.1
              have j4 : bit (tI σ 31) k = 1 := (bn.2.2.2.1 k (by omega)).mpr (Or.inr hk)
              have j5 : bit (tI σ3 31) k = 1 := by rw [(c3.2.2.2.1 31 (by decide)).1]; exact j4
              have j6 := B1.2.2.2.2 k (by omega) (fun y => n0D (y ▸ hk))
              unfold SnR
              rw [eR6, (c7.2.2.2.1 30 (by decide)).2, (G5 30 (by decide)).2]
              rw [eR3, (c3.2.2.2.1 30 (by decide)).2] at j6
              exact j6
            have Sn0 : SnR σ6 n0 = tA σ 18 (np τ) := by
              rw [m18]
              have := B2
              unfold SnR at this ⊢
              rw [eR6, (c7.2.2.2.1 30 (by decide)).2, (G5 30 (by decide)).2]
              rw [eR4, eR3] at this
              exact this
            have bn6 : BN τ σ6 (fun k => D k ∨ k = n0) := by
              have b6 : BN σ σ6 (fun k => k = n0) := B1.st c3.2.2.2.1 ((G5.mono (S' := [25, 2, 3, 4, 5, 6]) (by decide)).trans (c7.2.2.2.1.mono (by decide)))
              have N7 : NmR p w5 σ6 := ((N4.ft G5 (by decide)).1.on rb6.1 c7)
              exact bn.trans b6 eR2 (bits_01 h.2.2.1) N7.2.2.2.2.1
            -- the pattern's root, with its name
            have hown : ∀ k, own σ6 (np τ) k ↔ own σ (np τ) k ∨ k = n0 := by
              intro k
              unfold own
              rw [show tA σ6 24 (np τ) = tA σ 24 (np τ) from (FC 24 (by decide)).2 _, show tA σ6 25 (np τ) = (n0 : Int) from (e25 _).trans (if_pos rfl), show tA σ 25 (np τ) = -4 from m25]
              omega
            have K2 := hs2.2.1
            have K7 : ∀ w7, Fr (p :: [fR w3 15 p, fR w3 16 p, r]) u w7 → fR w7 0 p = fR u 0 p → nK σ ≤ nK σ6 ∧ ∀ k, k < nK σ → kd w7 p k = kd u p k ∧ tA σ6 14 k = tA σ 14 k ∧ ∀ i : Nat, (i : Int) < tA σ 14 k → tA σ6 15 (4 * k + i : Nat) = tA σ 15 (4 * k + i : Nat) := by
              intro w7 f7 p7
              refine ⟨by unfold nK; rw [(FC 10 (by decide)).1]; exact Nat.le_refl _, fun k hk => ⟨kd_fr2 K2.1 f7 p7 (fun y => ?_) k, (FC 14 (by decide)).2 _, fun i _ => (FC 15 (by decide)).2 _⟩⟩
              have q1 : tg u (fR u 0 p) = 112 := K2.1.1
              have q2 : p < fR u 0 p := K2.1.2.2.1
              have q3 : fR u 0 p ≤ p + 8 := K2.1.2.2.2.1
              have c15 : tg u (fR w3 15 p) = 103 ∧ tg u (fR w3 16 p) = 102 := by
                have z1 := hs2.2.2.1.1.1.1
                have z2 := hs2.2.2.1.1.2.1
                rw [(c3.2.1 15 (by decide)).2, (c3.2.1 16 (by decide)).2]
                exact ⟨z1, z2⟩
              simp only [List.mem_cons, List.not_mem_nil, or_false] at y
              rcases y with y | y | y | y
              · omega
              · rw [y, c15.1] at q1; cases q1
              · rw [y, c15.2] at q1; cases q1
              · omega
            have TK : ∀ a, a < r → Tok (cz w) u (p :: [fR w3 15 p, fR w3 16 p, r]) a := by
              intro a ha x hx
              have g1 := hA3.1.2.2.2
              have g2 := hA3.2.2.2.2
              simp only [List.mem_cons, List.not_mem_nil, or_false] at hx
              rcases hx with y | y | y | y
              · left; omega
              · left; omega
              · left; omega
              · rw [y]; exact Or.inr (Or.inr (Or.inr ⟨by omega, ha⟩))
            have coreF : ∀ w7 b' nm', b' ≤ cz w → Fr (p :: [fR w3 15 p, fR w3 16 p, r]) u w7 → fR w7 0 p = fR u 0 p → tg w7 r = tg u r → (∀ f, f ≠ 68 → fI w7 f r = fI u f r) → (∀ f, fR w7 f r = fR u f r) → fI w7 68 r = nm' → PCore (PRel p b' w7 σ6 (SnR σ6) n) p b' w7 σ6 (SnR σ6) (np σ6) r (np τ) (fun k => D k ∨ k = n0) nm' := by
              intro w7 b' nm' hb' f7 p7 h1' h2' h3' h4'
              rw [eP6]
              have hq : np τ < np σ := core.1
              refine PCore.gen (E := fun k => k = n0) hb' ⟨h1', h2', h3', h4'⟩ (fun a m ha => ?_) (fun f hf x _ _ => (FC f (by simp only [List.mem_cons, List.not_mem_nil, or_false] at hf ⊢; omega)).2 _) (fun x _ _ => (FC 23 (by decide)).2 _) (K7 w7 f7 p7) hown (fun k => Iff.rfl) (fun k hk => by rw [hk]; exact n0D) (fun k hk => ?_) (fun M a c F q1 q2 q3 q4 q5 q6 => ?_) core
              · have oa := f7.2.2.2.2 a (rb2.1.le (by rw [ha.1]; decide)) (fun y => by
                  have z1 := ha.1
                  have z2 := ha.2.2
                  have g1 := hA3.1.2.2.2
                  have g2 := hA3.2.2.2.2
                  simp only [List.mem_cons, List.not_mem_nil, or_false] at y
                  rcases y with y | y | y | y
                  · omega
                  · omega
                  · omega
                  · rw [y] at z1; omega)
                exact ⟨⟨by rw [ob.etg oa]; exact ha.1, by rw [ob.eln oa]; exact ha.2.1, ha.2.2⟩, fun i => ob.eaR oa i⟩
              · rcases (hown k).mp hk with y | y
                · have dk : D k := by
                    rcases core.2.2.2.2 with z | z | z | z | z | z | z
                    · exact (z.2.2.2 k).mpr y
                    · exact (z.2.2.2.2 k).mpr y
                    · exact (z.2.2.2.2 k).mpr y
                    · exact (z.2.2.2.2 k).mpr y
                    · exact (z.2.2.2.2 k).mpr y
                    · obtain ⟨_, _, _, _, _, _, _, _, _, _, _, _, _, _, _, _, _, x⟩ := z
                      exact (x.1 k).mpr (Or.inl y)
                    · obtain ⟨_, _, _, _, _, _, _, _, _, _, _, _, x, _⟩ := z
                      exact (x k).mpr (Or.inl y)
                  rw [Sn k dk]
                  exact core.2.2.2.1 k y
                · rw [y]; exact Sn0
              · exact PRel.fr rb2.1 f7 hb' (K7 w7 f7 p7) n M a c F (TK a q4) (fun f hf x x1 x2 => by
                  by_cases z : f = 25
                  · subst z
                    rw [e25, if_neg (by omega)]
                  · exact (FC f (by simp only [List.mem_cons, List.not_mem_nil, or_false] at hf ⊢; omega)).2 _) (fun x _ _ => (FC 23 (by decide)).2 _) (fun k hk => Sn k (q5 k hk)) q6
            have Fr26 : Fr (p :: [fR w3 15 p, fR w3 16 p]) u w6 := Fr25.trans (k1.mono (fun x hx => by cases hx))
            have pf25 : PF [9, 10, 11, 12, 13, 14, 17, 18] p u w5 := ((c3.2.1.mono (by decide)).trans (bP.mono (by decide))).trans (c7.2.1.mono (by decide))
            have pf26 : PF [9, 10, 11, 12, 13, 14, 17, 18] p u w6 := pf25.trans (PF.of k1 rb7.1.pz (by simp))
            have cUW : CF p [fR w3 15 p, fR w3 16 p] [9, 10, 11, 12, 13, 14, 17, 18] [2, 3, 4, 5, 6, 25, 28, 29, 30, 31] u σ w6 σ6 := ⟨Fr26, pf26, rb8.1, FC, by
              have z1 := c3.2.2.2.2.1
              have z2 := c7.2.2.2.2.1
              have z3 : tI σ5 5 = tI σ3 5 := (FB 5 (by decide)).1
              have z4 : tI σ5 5 = tI σ5 5 := rfl
              have z5 : tI σ3 5 = tI σ3 5 := rfl
              omega, (FC 1 (by decide)).1⟩
            have N8 : NmR p w6 σ6 := ((N4.ft G5 (by decide)).1.on rb6.1 c7).on rb7.1 c8
            have e16s := hs2.2.2.2.1
            have e5s := hs2.2.2.2.2.1
            have f3u : fR w3 15 p = fR u 15 p ∧ fR w3 16 p = fR u 16 p := ⟨(c3.2.1 15 (by decide)).2, (c3.2.1 16 (by decide)).2⟩
            have P6 : PS p w6 σ6 o := hs2.on' cUW rb8 N8 (fun x hx => by
              rw [f3u.1, f3u.2] at hx
              simpa using hx) (by rw [(FC 16 (by decide)).1, eP6]; exact e16s) ⟨by omega, by
              have z1 := c3.2.2.2.2.1
              have z2 : tI σ 5 = tI σ 5 := rfl
              have z3 : tI σ5 5 = tI σ3 5 := (FB 5 (by decide)).1
              omega⟩ z32 ⟨fun f hf x _ => (FC f (by simp only [List.mem_cons, List.not_mem_nil, or_false]; omega)).2 _, fun f h1 h2 x _ => (FC f (by simp only [List.mem_cons, List.not_mem_nil, or_false]; omega)).2 _⟩
            by_cases h24 : tA σ 24 (np τ) = -4
            · -- the name is its own
              rw [if_pos h24] at g6
              refine OUTb.cc (fun Q X hh => ⟨by rw [t6]; exact (hF68 htg), br0 (by rw [g6]; decide) ⟨by rw [t6]; exact (hP68 htg), hh⟩⟩) ?_
              refine OUTb.wo (r := r) hR8 rb8 (pI w6 68 r n0) ((Fr.refl _ _).spI (Or.inl (by simp))) ((PF.refl _ _ _).spI (Or.inr (by omega))) (rb8.1.spI _ _ _) ⟨rfl, rfl⟩ (fun Q X hh => hh) ⟨by omega, by rw [t6]; omega, by rw [t6]; omega⟩ (Or.inr (by omega)) (fun w7 ew7 rb9 c9 hR9 => ?_)
              have f24 : tA σ6 24 (np τ) = -4 := ((FC 24 (by decide)).2 _).trans h24
              have f25 : tA σ6 25 (np τ) = (n0 : Int) := (e25 _).trans (if_pos rfl)
              have f7 : Fr (p :: [fR w3 15 p, fR w3 16 p, r]) u w7 := by
                rw [ew7]
                exact (Fr26.mono (fun x hx => Or.inl (by simp at hx ⊢; omega))).spI (Or.inl (by simp))
              have cr := coreF w7 b n0 hb f7 (by rw [ew7]; exact (pf26 0 (by decide)).2) (by rw [ew7]; exact t6) (fun f hf => by rw [ew7, fI_of _ _ _ _ hf, ob.efI o6, ob.efI o5]) (fun f => by rw [ew7]; show fR w6 f r = _; rw [ob.efR o6, ob.efR o5]) (by rw [ew7, fI_at])
              refine OUTb.iR (v := r) (q := np τ) rb9 ⟨hm0, rfl, by rw [ew7]; exact P6.p68 (by rw [← ew7]; exact rb9), by omega, ((FC 18 (by decide)).2 _).trans m18, ((FC 23 (by decide)).2 _).trans m23, U6, eR6.trans eR2, (fun k => D k ∨ k = n0), ⟨Or.inl f24, Or.inr (by rw [f25]; omega), Or.inl ⟨Or.inl f24, ?_⟩⟩, bn6⟩ (fun Q X hh => hh) (fun I QF cl k => bT_readAs_62 (by
                have k' : rpA (wpT (e + 8)) QF I (np τ) (tI σ6 32) σ6 := k
                rw [z32] at k'
                exact k'))
              rw [if_pos f24, f25, if_neg (by omega)]
              exact cr
            · -- it has a name already
              have h24' : 0 ≤ tA σ 24 (np τ) ∧ tA σ 24 (np τ) < 8 := by
                rcases hnm0 with y | y
                · exact absurd y h24
                · exact y
              rw [if_neg h24] at g6
              refine OUTb.cc (fun Q X hh => ⟨by rw [t6]; exact (hF68 htg), br1 (by rw [g6]; exact h24'.1) ⟨by rw [k5]; decide, hh⟩⟩) ?_
              refine OUTb.wo (r := cz w5 + 1) hR8 rb8 (pI w6 68 (cz w5 + 1) n0) ((Fr.refl _ _).spI (Or.inl (by simp))) ((PF.refl _ _ _).spI (Or.inr (by omega))) (rb8.1.spI _ _ _) ⟨rfl, rfl⟩ (fun Q X hh => hh) ⟨by omega, by rw [k5]; decide, by rw [k5]; decide⟩ (Or.inr (by omega)) (fun w7 ew7 rb9 c9 hR9 => ?_)
              have f24 : tA σ6 24 (np τ) = tA σ 24 (np τ) := (FC 24 (by decide)).2 _
              have f25 : tA σ6 25 (np τ) = (n0 : Int) := (e25 _).trans (if_pos rfl)
              have f7 : Fr (p :: [fR w3 15 p, fR w3 16 p, r]) u w7 := by
                rw [ew7]
                exact (Fr26.mono (fun x hx => Or.inl (by simp at hx ⊢; omega))).spI (Or.inr (by omega))
              have rne : r ≠ cz w5 + 1 := by omega
              have cr := coreF w7 b (tA σ 24 (np τ)) hb f7 (by rw [ew7]; exact (pf26 0 (by decide)).2) (by rw [ew7]; exact t6) (fun f hf => by rw [ew7, fI_of _ _ _ _ hf, ob.efI o6, ob.efI o5]) (fun f => by rw [ew7]; show fR w6 f r = _; rw [ob.efR o6, ob.efR o5]) (by rw [ew7, fI_pI, if_neg (fun y => rne y.2)]; exact g6)
              have x73 : fR w7 73 (cz w5 + 1) = cz w5 + 2 := by rw [ew7]; exact k7
              refine OUTb.iR (v := cz w5 + 1) (q := np τ) rb9 ⟨hm0, rfl, by rw [ew7]; exact P6.p68 (by rw [← ew7]; exact rb9), by omega, ((FC 18 (by decide)).2 _).trans m18, ((FC 23 (by decide)).2 _).trans m23, U6, eR6.trans eR2, (fun k => D k ∨ k = n0), ⟨Or.inr (by rw [f24]; exact h24'), Or.inr (by rw [f25]; omega), Or.inr ⟨by rw [f24]; exact h24, by rw [f25]; omega, by rw [ew7]; exact k5, by omega, by rw [f25, ew7, fI_at], ?_, ?_, ?_⟩⟩, bn6⟩ (fun Q X hh => hh) (fun I QF cl k => bT_readAs_62 (by
                have k' : rpA (wpT (e + 8)) QF I (np τ) (tI σ6 32) σ6 := k
                rw [z32] at k'
                exact k'))
              · rw [x73, ew7]; exact ⟨k8, k9, by omega⟩
              · rw [x73, ew7]
                show aR w6 (cz w5 + 2) 0 < _
                rw [k10]; omega
              · rw [x73, f24]
                have e10 : aR w7 (cz w5 + 2) 0 = r := by rw [ew7]; exact k10
                rw [e10]
                exact cr
          · -- a wrong token behind the name
            refine DD.iT (F' := fun I QF => rpA (wpT (e + 8)) QF I (np τ) (tI σ 32) σ7) (fun I QF cl k => bT_readAs_62 k) ?_
            have eR3 : nR σ3 = nR σ := nR_ft c3.2.2.2.1 (by decide)
            have eP3 : np σ3 = np σ := np_ft c3.2.2.2.1 (by decide)
            have U7 : UT τ σ7 o := (((U2.trans (UT.ft c3.2.2.2.1 (by decide) o) (by omega) eR2).trans B3 (by omega) (by rw [eR3]; exact eR2)).wr (by decide) e5').trans (UT.ft F7 (by decide) o) (by rw [np_ft G5 (by decide), np_ft bT (by decide)]; omega) (by rw [nR_ft G5 (by decide), eR4, eR3]; exact eR2)
            have e32 := h.2.2.2.2.2.1
            have z32 : tI σ7 32 = o := by rw [(F7 32 (by decide)).1, (G5 32 (by decide)).1, (bT 32 (by decide)).1, (c3.2.2.2.1 32 (by decide)).1]; exact hs2.2.2.2.2.2.1
            have z27 : tI σ7 27 = nR σ := by rw [(F7 27 (by decide)).1, (G5 27 (by decide)).1, (bT 27 (by decide)).1, (c3.2.2.2.1 27 (by decide)).1]; exact hs2.2.2.1.2.1
            exact dA15 (R := nR σ) D7 z27 hs2.2.2.1.2.2.1 z32 (by have := h.2.2.2.2.2.2.1; omega) (fun k hk => (h.2.2.2.2.2.2.2.2.2.1 k (by omega)).on (by omega) U7 (h.2.2.2.2.2.2.2.2.2.2 k (by omega))) (fun _ => qr) (by rw [hs2.2.2.2.2.2.1]; omega)
      · -- no name
        obtain ⟨σ4, ⟨q1, q2, q3⟩, run⟩ := RB.stop (e := e + 5) rb3 (k := 2) (by decide)
        exact OUTb.thr rb3 (fun Q X hh => fa (rb3.wantNo (if_neg (by rw [ty3]; exact h1)) hr3 hh)) (DD.iP (σ := σ4) (S1 := [7, 8]) q1 (fun I QF cl k => br0 h1 (run _ k)) (dd_as (q := np τ) (x4 := tI σ 32) q2 q3))
    · -- a wrong token behind as
      by_cases h0 : tI σ3 7 = 0
      · have s7 : ¬ tI σ3 3 = 1 := by have := (D3.ns h0 0).2.2; omega
        obtain ⟨σ4, ⟨q1, q2, q3⟩, run⟩ := dd_stop (d := e + 5) (k := 2) D3 (by decide)
        exact DD.iP (σ := σ4) (S1 := [7, 8]) q1 (fun I QF cl k => br0 s7 (run _ k)) (dd_as (q := np τ) (x4 := tI σ 32) q2 q3)
      · exfalso
        exact h0 ((F3 7 (by decide)).1.trans rb2.f0)
end ZPatn
