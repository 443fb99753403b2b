/-! a function, both -/
section ZFunc8
variable {p b e d : Nat} {w : CW} {τ : TW}
noncomputable def fnT (τ : TW) (nf : Nat) : TW := sA (sA (sA (sI τ 41 (nf + 1 : Nat)) 42 nf (tI τ 4)) 43 nf 0) 45 nf 0
theorem fnT_ft (τ : TW) (nf : Nat) : FT [41, 42, 43, 45] τ (fnT τ nf) := by
  unfold fnT
  exact ((((FT.refl _ τ).ssI (by decide)).ssA (by decide)).ssA (by decide)).ssA (by decide)
theorem fnT_at (τ : TW) (nf : Nat) : tI (fnT τ nf) 41 = (nf + 1 : Nat) ∧ ∀ y : Nat, tA (fnT τ nf) 42 y = (if y = nf then tI τ 4 else tA τ 42 y) ∧ tA (fnT τ nf) 43 y = (if y = nf then 0 else tA τ 43 y) ∧ tA (fnT τ nf) 45 y = (if y = nf then 0 else tA τ 45 y) := by
  refine ⟨?_, fun y => ⟨?_, ?_, ?_⟩⟩
  · unfold fnT
    show tI (sI τ 41 (nf + 1 : Nat)) 41 = _
    rw [tI_sI, if_pos rfl]
  · unfold fnT
    rw [tA_sA, if_neg (by omega), tA_sA, if_neg (by omega), tA_sA]
    by_cases z : y = nf
    · rw [if_pos ⟨rfl, by omega⟩, if_pos z]
    · rw [if_neg (by omega), if_neg z]; rfl
  · unfold fnT
    rw [tA_sA, if_neg (by omega), tA_sA]
    by_cases z : y = nf
    · rw [if_pos ⟨rfl, by omega⟩, if_pos z]
    · rw [if_neg (by omega), if_neg z, tA_sA, if_neg (by omega)]; rfl
  · unfold fnT
    rw [tA_sA]
    by_cases z : y = nf
    · rw [if_pos ⟨rfl, by omega⟩, if_pos z]
    · rw [if_neg (by omega), if_neg z, tA_sA, if_neg (by omega), tA_sA, if_neg (by omega)]; rfl
theorem sT_fn64 {nf : Nat} {σ : TW} {Q : TW → Prop} (f0 : tI τ 7 = 0) (e41 : tI τ 41 = nf) (n12 : nf < 12) (h : σ = fnT τ nf) (hQ : wpT (e + 10) 4 [] σ (zqV (fun u16 => wpT (e + 10) 20 [ai 40] u16 (zqV (fun u17 => pT_readFunction_123 (wpT (e + 10)) Q nf 1 u17) zno)) zno)) : pT_readFunction_64 (wpT (e + 10)) Q τ := by
  have hff : (0 : Int) ≤ (nf : Int) ∧ (nf : Int) < 12 := by omega
  refine bT_readFunction_64 (br1 f0 (fun x1 hx1 u9 hu9 => ?_))
  rw [e41] at hx1 hu9
  subst hx1
  rw [w32_k (by omega)] at hu9
  refine ⟨hff, fun u10 hu10 => ⟨hff, fun u12 hu12 => ⟨hff, fun u14 hu14 => ?_⟩⟩⟩
  have e14 : u14 = σ := by rw [hu14, hu12, hu10, hu9, h]; rfl
  rw [e14]
  exact hQ
theorem fn64_dead {h pl : Int} (D : Dd h pl τ) (hf : tI τ 7 ≠ 0) : DD [7, 8] h pl (fun (Q : Unit → TW → Prop) => pT_readFunction_64 (wpT (e + 10)) (fun w => Q () w) τ) τ :=
  DD.c (fun Q k => bT_readFunction_64 (br0 hf k)) (DD.ret (b := ()) D (fun Q k => k))
theorem pT_uf123' {M : Nat} {x1 x2 : Int} : (fun (Q : Unit → TW → Prop) => pT_readFunction_123 (wpT M) (fun w => Q () w) x1 x2 τ) = tmL (ufLT M x1) (fun (_ : Unit → TW → Prop) I => I x2 τ) := rfl
theorem fn_dead40 {h pl : Int} {f : Nat} (D : Dd h pl τ) (hf : f < 12) (k0 : 0 ≤ tI τ 10) (k24 : tI τ 10 ≤ 24) : DD [7, 8] h pl (fun (Q : Unit → TW → Prop) => wpT (e + 10) 20 [ai 40] τ (zqV (fun u17 => pT_readFunction_123 (wpT (e + 10)) (fun w => Q () w) f 1 u17) zno)) τ := by
  obtain ⟨σ3, ⟨a3, b3, c3⟩, run3⟩ := dd_must (d := e + 6) (c := 40) D
  refine DD.pre (tm' := fun (Q : Unit → TW → Prop) => pT_readFunction_123 (wpT (e + 10)) (fun w => Q () w) f 1 σ3) (S1 := [7, 8]) a3 (fun Q k => run3 _ k) ?_
  rw [pT_uf123']
  exact uf_dead (e := e) b3 hf (by rw [(a3 10 (by decide)).1]; exact k0) (by rw [(a3 10 (by decide)).1]; exact k24)
theorem RB.wr {S : List Nat} {τ' : TW} (h : RB p w τ) (F : FT S τ τ') (hS : ∀ f, f ∈ S → 8 < f) (hR : R45 τ') : RB p w τ' := by
  have g : ∀ f, f ≤ 8 → tI τ' f = tI τ f ∧ ∀ i, tA τ' f i = tA τ f i := fun f hf => F f (fun y => by have := hS f y; omega)
  have hb : bt τ' = bt τ := funext (bt_eq (g 1 (by decide)).1 (g 0 (by decide)).2)
  obtain ⟨W, L, T, R, g1, g2, g3⟩ := h
  refine ⟨W, L, ⟨by rw [(g 1 (by decide)).1]; exact T.1, by rw [(g 1 (by decide)).1]; exact T.2.1, fun k hk => by rw [(g 0 (by decide)).2]; exact T.2.2 k (by rw [← (g 1 (by decide)).1]; exact hk)⟩, ⟨R.1, R.2.1, by rw [(g 1 (by decide)).1]; exact R.2.2.1, fun k hk => by rw [(g 0 (by decide)).2]; exact R.2.2.2 k (by rw [← (g 1 (by decide)).1]; exact hk)⟩, ?_, ?_, by rw [(g 7 (by decide)).1]; exact g3.1, hR⟩
  · unfold TokT WdT at *
    rw [(g 3 (by decide)).1, (g 4 (by decide)).1, (g 5 (by decide)).1, (g 6 (by decide)).1, (g 1 (by decide)).1, hb]
    exact g1
  · unfold TokC at *
    rw [(g 3 (by decide)).1, (g 4 (by decide)).1, (g 5 (by decide)).1, (g 6 (by decide)).1]
    exact g2
end ZFunc8
