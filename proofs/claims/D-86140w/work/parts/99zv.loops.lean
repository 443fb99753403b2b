/-! loops of both at once: whatever holds for all that a loop is for -/
section ZLoops
variable {p b : Nat} {w : CW} {τ : TW} {α β α1 β1 ι κ : Type} {T S S' : List Nat} {a t : Int} {N : α → β → CW → TW → Prop} {cm : (α → CW → Prop) → (Nat → CW → Prop) → Prop} {tm : (β → TW → Prop) → Prop} {L F : (α → CW → Prop) → (Nat → CW → Prop) → ι → Prop} {K G : (β → TW → Prop) → κ → Prop}
/-- within a loop of the reference's: I is the loop, K its law -/
def tmL (K : (β → TW → Prop) → κ → Prop) (G : (β → TW → Prop) → κ → Prop) : (β → TW → Prop) → Prop := fun Q => ∀ I, K Q I → G Q I
theorem OUTb.gT {G' : (β → TW → Prop) → κ → Prop} (ht : ∀ Q I, K Q I → G' Q I → G Q I) (h : OUTb p b T S S' a t N cm (tmL K G') w τ) : OUTb p b T S S' a t N cm (tmL K G) w τ :=
  OUTb.tt (fun Q h I l => ht Q I l (h I l)) h
/-- out of the loop -/
theorem OUTb.gO (h : OUTb p b T S S' a t N cm tm w τ) : OUTb p b T S S' a t N cm (tmL K (fun Q _ => tm Q)) w τ :=
  OUTb.tt (fun _ k _ _ => k) h
theorem OUTb.gW {S1 : List Nat} {A : Int} {G2 : TW → (β → TW → Prop) → κ → Prop} (hR : Rm A w τ) (h : RB p w τ) (e0 : TW) (F1 : FT S1 τ e0) (hT : ∀ Q I, K Q I → (∀ u, u = e0 → G2 u Q I) → G Q I)
    (h2 : ∀ u, u = e0 → RB p w u → FT S1 τ u → Rm A w u → OUTb p b T S S' a t N cm (tmL K (G2 u)) w u) (hs : ∀ f, f ∈ S1 → f ∈ S' := by first | decide | exact fun f hf => hf | (intro f hf; cases hf; done)) (h8 : ∀ f, f ∈ S1 → 8 < f ∧ f ≠ 41 ∧ f ≠ 45 := by decide) : OUTb p b T S S' a t N cm (tmL K G) w τ :=
  OUTb.tw (tm2 := fun u => tmL K (G2 u)) hR h e0 F1 (fun Q h I l => hT Q I l (fun u hu => h u hu I l)) h2 hs h8
/-- a call of both, within a loop of each -/
theorem OUTb.gB {T1 S1 S1' : List Nat} {A a1 t1 : Int} {N1 : α1 → β1 → CW → TW → Prop} {cm1 : (α1 → CW → Prop) → (Nat → CW → Prop) → Prop} {tm1 : (β1 → TW → Prop) → Prop} {F2 : α1 → CW → (α → CW → Prop) → (Nat → CW → Prop) → ι → Prop} {G2 : β1 → TW → (β → TW → Prop) → κ → Prop} (hR : Rm A w τ)
    (h1 : OUT p T1 S1 S1' a1 t1 N1 cm1 tm1 w τ) (hC : ∀ Q X I, L Q X I → cm1 (fun v u => F2 v u Q X I) X → F Q X I) (hT : ∀ Q I b1 σ, K Q I → (∀ P : β1 → TW → Prop, P b1 σ → tm1 P) → G2 b1 σ Q I → G Q I)
    (h2 : ∀ v v' u σ, RB p u σ → N1 v v' u σ → CF p T1 S1 S1' w τ u σ → Rm (A - a1) u σ → OUTb p b T S S' (a - a1) (t - a1) N (cmG L (F2 v u)) (tmL K (G2 v' σ)) u σ)
    (hd : ∀ h pl v' σ, Dd h pl σ → FT S1' τ σ → DD S' h pl (tmL K (G2 v' σ)) σ)
    (hTT : ∀ r, r ∈ T1 → r ∈ T ∨ b < r := by first | exact fun r hr => Or.inl hr | (intro r hr; cases hr)) (hS : ∀ f, f ∈ S1 → f ∈ S := by first | decide | exact fun f hf => hf | (intro f hf; cases hf; done)) (hS' : ∀ f, f ∈ S1' → f ∈ S' := by first | decide | exact fun f hf => hf | (intro f hf; cases hf; done)) (ht : t1 ≤ t := by decide) : OUTb p b T S S' a t N (cmG L F) (tmL K G) w τ :=
  OUTb.bd00 (cm2 := fun v u => cmG L (F2 v u)) (tm2 := fun v σ => tmL K (G2 v σ)) hR h1 (fun Q X _ _ run k I l => hC Q X I l (run _ (k I l))) (fun Q X k I l => hC Q X I l (k _)) (fun Q b1 τ1 run h I l => hT Q I b1 τ1 l run (h I l)) h2 hd hTT hS hS' ht
/-- a call of both without an answer -/
theorem OUTb.gV {T1 S1 S1' : List Nat} {A a1 t1 : Int} {N1 : α1 → β1 → CW → TW → Prop} {cm1 : (α1 → CW → Prop) → (Nat → CW → Prop) → Prop} {tm1 : (β1 → TW → Prop) → Prop} {F2 : CW → (α → CW → Prop) → (Nat → CW → Prop) → ι → Prop} {G2 : TW → (β → TW → Prop) → κ → Prop} (hR : Rm A w τ)
    (h1 : OUT p T1 S1 S1' a1 t1 N1 cm1 tm1 w τ) (hC : ∀ Q X I, L Q X I → cm1 (fun _ u => F2 u Q X I) X → F Q X I) (hT : ∀ Q I, K Q I → tm1 (fun _ u => G2 u Q I) → G Q I)
    (h2 : ∀ v v' u σ, RB p u σ → N1 v v' u σ → CF p T1 S1 S1' w τ u σ → Rm (A - a1) u σ → OUTb p b T S S' (a - a1) (t - a1) N (cmG L (F2 u)) (tmL K (G2 σ)) u σ)
    (hd : ∀ h pl σ, Dd h pl σ → FT S1' τ σ → DD S' h pl (tmL K (G2 σ)) σ)
    (hTT : ∀ r, r ∈ T1 → r ∈ T ∨ b < r := by first | exact fun r hr => Or.inl hr | (intro r hr; cases hr)) (hS : ∀ f, f ∈ S1 → f ∈ S := by first | decide | exact fun f hf => hf | (intro f hf; cases hf; done)) (hS' : ∀ f, f ∈ S1' → f ∈ S' := by first | decide | exact fun f hf => hf | (intro f hf; cases hf; done)) (ht : t1 ≤ t := by decide) : OUTb p b T S S' a t N (cmG L F) (tmL K G) w τ :=
  OUTb.bd00 (cm2 := fun _ u => cmG L (F2 u)) (tm2 := fun _ σ => tmL K (G2 σ)) hR h1 (fun Q X _ _ run k I l => hC Q X I l (run _ (k I l))) (fun Q X k I l => hC Q X I l (k _)) (fun Q b1 τ1 run h I l => hT Q I l (run _ (h I l))) h2 (fun h pl _ σ => hd h pl σ) hTT hS hS' ht
/-- a call of both, within a loop of the component's alone -/
theorem OUTb.gBC {T1 S1 S1' : List Nat} {A a1 t1 : Int} {N1 : α1 → β1 → CW → TW → Prop} {cm1 : (α1 → CW → Prop) → (Nat → CW → Prop) → Prop} {tm1 : (β1 → TW → Prop) → Prop} {F2 : α1 → CW → (α → CW → Prop) → (Nat → CW → Prop) → ι → Prop} {tm2 : β1 → TW → (β → TW → Prop) → Prop} (hR : Rm A w τ)
    (h1 : OUT p T1 S1 S1' a1 t1 N1 cm1 tm1 w τ) (hC : ∀ Q X I, L Q X I → cm1 (fun v u => F2 v u Q X I) X → F Q X I) (hT : ∀ Q b1 σ, (∀ P : β1 → TW → Prop, P b1 σ → tm1 P) → tm2 b1 σ Q → tm Q)
    (h2 : ∀ v v' u σ, RB p u σ → N1 v v' u σ → CF p T1 S1 S1' w τ u σ → Rm (A - a1) u σ → OUTb p b T S S' (a - a1) (t - a1) N (cmG L (F2 v u)) (tm2 v' σ) u σ)
    (hd : ∀ h pl v' σ, Dd h pl σ → FT S1' τ σ → DD S' h pl (tm2 v' σ) σ)
    (hTT : ∀ r, r ∈ T1 → r ∈ T ∨ b < r := by first | exact fun r hr => Or.inl hr | (intro r hr; cases hr)) (hS : ∀ f, f ∈ S1 → f ∈ S := by first | decide | exact fun f hf => hf | (intro f hf; cases hf; done)) (hS' : ∀ f, f ∈ S1' → f ∈ S' := by first | decide | exact fun f hf => hf | (intro f hf; cases hf; done)) (ht : t1 ≤ t := by decide) : OUTb p b T S S' a t N (cmG L F) tm w τ :=
  OUTb.bd00 (cm2 := fun v u => cmG L (F2 v u)) hR h1 (fun Q X _ _ run k I l => hC Q X I l (run _ (k I l))) (fun Q X k I l => hC Q X I l (k _)) (fun Q b1 τ1 run h => hT Q b1 τ1 run h) h2 hd hTT hS hS' ht
/-- the component throws within both -/
theorem OUTb.gX {how pl : Int} (h : RB p w τ) (hC : ∀ Q X I, L Q X I → X (cz w + 1) (wrW w how pl) → F Q X I) (hd : DD S' how pl tm τ) (ha : 13 ≤ t := by decide) : OUTb p b T S S' a t N (cmG L F) tm w τ :=
  OUTb.thr h (fun Q X k I l => hC Q X I l k) hd ha
/-- the same, dead -/
theorem DD.gT {h pl : Int} {G' : (β → TW → Prop) → κ → Prop} (ht : ∀ Q I, K Q I → G' Q I → G Q I) (k : DD S' h pl (tmL K G') τ) : DD S' h pl (tmL K G) τ :=
  DD.c (fun Q h I l => ht Q I l (h I l)) k
theorem DD.gO {h pl : Int} (k : DD S' h pl tm τ) : DD S' h pl (tmL K (fun Q _ => tm Q)) τ := DD.c (fun _ k _ _ => k) k
theorem DD.gW {S1 : List Nat} {h pl : Int} {G2 : TW → (β → TW → Prop) → κ → Prop} (D : Dd h pl τ) (e0 : TW) (F1 : FT S1 τ e0) (hT : ∀ Q I, K Q I → (∀ u, u = e0 → G2 u Q I) → G Q I)
    (h2 : ∀ u, u = e0 → Dd h pl u → FT S1 τ u → DD S' h pl (tmL K (G2 u)) u) (hs : ∀ f, f ∈ S1 → f ∈ S' := by first | decide | exact fun f hf => hf | (intro f hf; cases hf; done)) (h8 : ∀ f, f ∈ S1 → 8 < f ∧ f ≠ 41 ∧ f ≠ 45 := by decide) : DD S' h pl (tmL K G) τ :=
  DD.tw (tm2 := fun u => tmL K (G2 u)) D e0 F1 (fun Q h I l => hT Q I l (fun u hu => h u hu I l)) h2 hs h8
theorem DD.gB {S1 : List Nat} {h pl : Int} {tm1 : (β1 → TW → Prop) → Prop} {G2 : β1 → TW → (β → TW → Prop) → κ → Prop} (h1 : DD S1 h pl tm1 τ) (hT : ∀ Q I b1 σ, K Q I → (∀ P : β1 → TW → Prop, P b1 σ → tm1 P) → G2 b1 σ Q I → G Q I)
    (h2 : ∀ b u, Dd h pl u → FT S1 τ u → DD S' h pl (tmL K (G2 b u)) u) (hs : ∀ f, f ∈ S1 → f ∈ S' := by first | decide | exact fun f hf => hf | (intro f hf; cases hf; done)) : DD S' h pl (tmL K G) τ :=
  DD.bd0 (tm2 := fun b u => tmL K (G2 b u)) h1 (fun Q b1 τ1 run h I l => hT Q I b1 τ1 l run (h I l)) h2 hs
end ZLoops
