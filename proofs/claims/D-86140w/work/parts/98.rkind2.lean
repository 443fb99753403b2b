/-! a kind's parts, both -/
section ZRKind2
variable {p d e : Nat} {w : CW} {τ : TW}
theorem dkk_153 {h pl : Int} {k : Nat} (D : Dd h pl τ) (h0 : 0 ≤ tI τ 10) (h24 : tI τ 10 ≤ 24) (hk : k < 24) : ∃ τ', (FT [7, 8] τ τ' ∧ Dd h pl τ') ∧ ∀ (Q : TW → Prop) (I : Int → TW → Prop), (∀ (x3 : Int) (w : TW), bkT (wpT (e + 6)) Q k I x3 w → I x3 w) → Q τ' → I 1 τ := by
  by_cases hf : tI τ 7 = 0
  · have h7 : tI τ 3 = 7 ∧ h = 1 ∧ tI τ 5 = pl := by
      rcases D with ⟨a, b, c⟩ | ⟨a, b, c, e, -⟩
      · omega
      · exact ⟨b, c, e⟩
    have hs : srt τ = -1 := by
      unfold srt
      rw [if_neg (by omega), if_neg (by omega)]
    have key : ∀ much, ∃ τ' s, (FT [7, 8] τ τ' ∧ Dd h pl τ' ∧ tI τ' 7 ≠ 0) ∧ ∀ Q, Q (.inl (some (ai s))) τ' → wpT (e + 6) 19 [ai much] τ Q := by
      intro much
      obtain ⟨τ', s, ⟨a, b, c⟩, run⟩ := sT_readSortNo (d := e + 1) (much := much) h0 h24 hf hs
      rw [if_pos h7.1, h7.2.2, ← h7.2.1] at b
      exact ⟨τ', s, ⟨a, b, c⟩, run⟩
    obtain ⟨τ1, s, ⟨a, b, c⟩, run⟩ := key (if (tA τ 14 (k : Int)) = 4 then 1 else 0)
    obtain ⟨τ2, ⟨a2, b2⟩, run2⟩ := dk_219 (e := e + 2) (k := (k : Int)) b
    exact ⟨τ2, ⟨a.trans a2, b2⟩, fun Q I hI hQ => hI _ _ ⟨fun _ => ⟨⟨by omega, by omega⟩, fa (run _ ⟨fun z => absurd z c, fun _ => run2 Q I hI hQ⟩)⟩, fun z => absurd ⟨by decide, hf⟩ z⟩⟩
  · obtain ⟨τ2, h2, run2⟩ := dk_229 (e := e + 2) D
    exact ⟨τ2, h2, fun Q I hI hQ => hI _ _ ⟨fun z => absurd z.2 hf, fun _ => run2 Q hQ⟩⟩
theorem FT.sta {S : List Nat} {τ' : TW} (F : FT S τ τ') (f : Nat) (i v : Int) : FT S (sA τ f i v) (sA τ' f i v) := by
  intro g hg
  refine ⟨(F g hg).1, fun j => ?_⟩
  rw [tA_sA, tA_sA]
  by_cases z : g = f ∧ j = i
  · rw [if_pos z, if_pos z]
  · rw [if_neg z, if_neg z]; exact (F g hg).2 j
theorem Dd.ft {h pl : Int} {S : List Nat} {τ' : TW} (D : Dd h pl τ) (F : FT S τ τ') (hS : ∀ f, f ∈ S → 8 < f ∧ f ≠ 41 ∧ f ≠ 45) : Dd h pl τ' := by
  have g : ∀ f, f ≤ 8 → tI τ' f = tI τ f := fun f hf => (F f (fun z => by have := hS f z; omega)).1
  unfold Dd at *
  rw [g 7 (by decide), g 8 (by decide), g 3 (by decide), g 5 (by decide)]
  rcases D with y | ⟨y1, y2, y3, y4, y5⟩
  · exact Or.inl y
  · exact Or.inr ⟨y1, y2, y3, y4, y5.ft F (fun z => (hS _ z).2.1 rfl) (fun z => (hS _ z).2.2 rfl)⟩
theorem UpK.fr {k x4 : Nat} {w' : CW} {τ' : TW} (h : UpK p w τ k x4) (hk : ∀ u, u < k → kd w' p u = kd w p u) (hu : tA τ' 13 k = tA τ 13 k) : UpK p w' τ' k x4 := by
  unfold UpK
  rw [hu]
  rcases h with y | ⟨u, y1, y2, y3⟩
  · exact Or.inl y
  · exact Or.inr ⟨u, y1, by rw [hk u y1]; exact y2, y3⟩
theorem KRs.kd_fr {m : Nat} {T S : List Nat} {w' : CW} (hW : WF p w) (h : KRs p w τ m) (hf : Fr (p :: T) w w') (hp : PF S p w w') (hT : ∀ r, r ∈ T → (r ≤ p + 8 ∧ r ≠ fR w 0 p) ∨ cz w < r) (h0 : 0 ∉ S) (j : Nat) : kd w' p j = kd w p j := by
  obtain ⟨⟨a1, a2, a3, a4⟩, -⟩ := h
  have nT0 : fR w 0 p ∉ p :: T := by
    intro hm
    have hz := hW.le (r := fR w 0 p) (by rw [a1]; decide)
    rcases List.mem_cons.mp hm with z | z
    · omega
    · rcases hT _ z with y | y
      · exact y.2 rfl
      · omega
  have o0 := hf.eob hW (r := fR w 0 p) (by rw [a1]; decide) nT0
  unfold kd
  rw [(hp 0 h0).2, ob.eaR o0]
/-- the rows of the first n kinds stay -/
def KSm (n : Nat) (τ τ' : TW) : Prop := ∀ u : Nat, u < n → tA τ' 12 u = tA τ 12 u ∧ tA τ' 13 u = tA τ 13 u ∧ tA τ' 14 u = tA τ 14 u ∧ ∀ j : Nat, j < 4 → tA τ' 15 (4 * u + j : Nat) = tA τ 15 (4 * u + j : Nat)
theorem KSm.trans {n : Nat} {τ τ' τ'' : TW} (h : KSm n τ τ') (k : KSm n τ' τ'') : KSm n τ τ'' := fun u hu => ⟨(k u hu).1.trans (h u hu).1, (k u hu).2.1.trans (h u hu).2.1, (k u hu).2.2.1.trans (h u hu).2.2.1, fun j hj => ((k u hu).2.2.2 j hj).trans ((h u hu).2.2.2 j hj)⟩
theorem KSm.ft {n : Nat} {S : List Nat} {τ τ' : TW} (F : FT S τ τ') (hS : ∀ f, f ∈ S → f < 12 ∨ 15 < f) : KSm n τ τ' := fun u hu => ⟨(F 12 (fun z => by have := hS 12 z; omega)).2 _, (F 13 (fun z => by have := hS 13 z; omega)).2 _, (F 14 (fun z => by have := hS 14 z; omega)).2 _, fun j hj => (F 15 (fun z => by have := hS 15 z; omega)).2 _⟩
/-- an outcome that leaves the first n kinds' rows -/
def OUTk {α β : Type} (n p : Nat) (T S S' : List Nat) (an at' : Int) (N : α → β → CW → TW → Prop) (cm : (α → CW → Prop) → (Nat → CW → Prop) → Prop) (tm : (β → TW → Prop) → Prop) (w : CW) (τ : TW) : Prop :=
  ∃ w' τ' b, (CF p T S S' w τ w' τ' ∧ KSm n τ τ') ∧ (∀ Q, Q b τ' → tm Q) ∧ ((∃ a, RB p w' τ' ∧ pot w' τ' ≤ pot w τ + an ∧ N a b w' τ' ∧ ∀ Q X, Q a w' → cm Q X) ∨ (∃ h pl x, pot w' τ' ≤ pot w τ + at' ∧ Wr w' x h pl ∧ Dd h pl τ' ∧ ∀ Q X, X x w' → cm Q X))
theorem OUTk.thr {α β : Type} {n : Nat} {T S S' : List Nat} {an at' : Int} {N : α → β → CW → TW → Prop} {cm : (α → CW → Prop) → (Nat → CW → Prop) → Prop} {tm : (β → TW → Prop) → Prop} {how pl : Int} {b : β} {τ' : TW} (h : RB p w τ) (ha : 13 ≤ at') (hc : ∀ Q X, X (cz w + 1) (wrW w how pl) → cm Q X) (hF : FT S' τ τ') (h5 : tI τ' 5 = tI τ 5) (h1 : tI τ' 1 = tI τ 1) (hD : Dd how pl τ') (ht : ∀ Q, Q b τ' → tm Q) (hK : KSm n τ τ') : OUTk n p T S S' an at' N cm tm w τ := by
  refine ⟨wrW w how pl, τ', b, ⟨⟨wrW_fr _ _ _ _, (wrW_st h.1 [] S how pl).2.1, (wrW_st h.1 [] S how pl).2.2.1, hF, by rw [h5]; exact Int.le_refl _, h1⟩, hK⟩, ht, Or.inr ⟨how, pl, cz w + 1, ?_, wrW_wr _ _ _, hD, hc⟩⟩
  have e1 : cz (wrW w how pl) = cz w + 1 := rfl
  have e2 : cu (wrW w how pl) = cu w + 8 := rfl
  unfold pot zm
  rw [h5, h1, e1, e2]
  omega
theorem rk_loop {k x4 x5 : Nat} {S S' T : List Nat} (hT5 : x5 ∈ T ∧ x5 + 1 ∈ T) (hS : ∀ f, f ∈ [9, 10, 11, 12, 13, 14] → f ∈ S) (hS' : ∀ f, f ∈ [2, 3, 4, 5, 6, 7, 8, 14, 15] → f ∈ S') : ∀ (n : Nat) (w : CW) (τ : TW), (tI τ 1 - tI τ 5).toNat < n → RB p w τ → KRs p w τ k → nK τ = k + 1 → UpK p w τ k x4 → (x4 ∈ T ∨ x4 = 0 ∨ slU p w τ k x4) → x5 = kd w p k → Rm 200 w τ →
    OUTk k p T S S' (-5900) 13 (fun (_ : Unit) (_ : Unit) w' τ' => KR p w' τ' ∧ nK τ' = k + 1) (fun Q X => ∀ I243 : CW → Prop, (∀ (w : CW), wpC p (d + 13) 4 [ar p] w (zqV (fun u41 => bkC p (wpC p (d + 13)) (fun u => wpC p (d + 14) 4 [ar p] u (zqV (Q ()) X)) X x4 x5 I243 u41) (fun x73 u74 => X x73 u74)) → I243 w) → bkC p (wpC p (d + 13)) (fun u => wpC p (d + 14) 4 [ar p] u (zqV (Q ()) X)) X x4 x5 I243 w) (fun Q => ∀ I153 : Int → TW → Prop, (∀ (x3 : Int) (w : TW), bkT (wpT (e + 6)) (Q ()) k I153 x3 w → I153 x3 w) → I153 1 τ) w τ := by
  intro n
  induction n with
  | zero => intro w τ hn; omega
  | succ n ih =>
    intro w τ hn h K hk hx hT4 hx5 hR
    have W := h.1
    have h0k := K.2.2.1
    have h24 := K.2.2.2.1
    have hkl := K.2.2.2.2.1 k (by omega)
    have hk24 : k < 24 := by have := (K.un k (by omega)).1; omega
    have h78 : 7 ∈ S' ∧ 8 ∈ S' := ⟨hS' 7 (by decide), hS' 8 (by decide)⟩
    have hf2 : ∀ {τ1 : TW}, FT [7, 8] τ τ1 → FT S' τ τ1 ∧ tI τ1 5 = tI τ 5 ∧ tI τ1 1 = tI τ 1 := fun F => ⟨F.mono (fun f hf => by
      rcases List.mem_cons.mp hf with y | y
      · rw [y]; exact h78.1
      · rw [List.mem_singleton.mp y]; exact h78.2), (F 5 (by decide)).1, (F 1 (by decide)).1⟩
    have hroom := Rm.room h hR (k := 1) (n := 8) (by decide)
    by_cases hs : srt τ = -1
    · -- no sort is told
      obtain ⟨τ1, s, ⟨a1, b1, c1⟩, run1⟩ := sT_readSortNo (d := e + 1) (much := if (tA τ 14 (k : Int)) = 4 then 1 else 0) h0k h24 h.f0 hs
      rw [if_neg h.n7] at b1
      obtain ⟨τ2, ⟨a2, b2⟩, run2⟩ := dk_219 (e := e + 2) (k := (k : Int)) b1
      obtain ⟨f1, f2, f3⟩ := hf2 (a1.trans a2)
      exact OUTk.thr (b := ()) h (by decide) (fun Q X hX I hI => sC_readSortNo h K hs hroom hX) f1 f2 f3 b2 (fun Q hQ I hI => hI _ _ ⟨fun _ => ⟨⟨by omega, by omega⟩, fa (run1 _ ⟨fun z => absurd z c1, fun _ => run2 (Q ()) I hI hQ⟩)⟩, fun z => absurd ⟨by decide, h.f0⟩ z⟩) (KSm.ft (a1.trans a2) (by decide))
    obtain ⟨hs0, hs1⟩ := srt_rg hs
    have hm0 := hkl.2.2.2.2.2.2.1
    have hm4 := hkl.2.2.2.2.2.2.2.1
    have hmany : fI w 42 x5 = tA τ 14 (k : Int) := by rw [hx5]; exact hkl.2.2.2.2.2.1
    have htag : tg w x5 = 3 := by rw [hx5]; exact hkl.1
    by_cases h4 : tA τ 14 k = 4
    · -- one part too many
      have h4' : tA τ 14 (k : Int) = 4 := h4
      obtain ⟨τ1, ⟨a1, b1, c1⟩, run1⟩ := RB.fails (e := e + 4) h (k := 9) (pl := tI τ 5) (by decide)
      obtain ⟨τ2, ⟨a2, b2⟩, run2⟩ := dk_219 (e := e + 2) (k := (k : Int)) b1
      obtain ⟨f1, f2, f3⟩ := hf2 (a1.trans a2)
      refine OUTk.thr (b := ()) h (by decide) (fun Q X hX I hI => sC_readSort h K hs ⟨by rw [htag]; decide, fa ?_⟩) f1 f2 f3 b2 (fun Q hQ I hI => hI _ _ ⟨fun _ => ⟨⟨by omega, by omega⟩, fa ?_⟩, fun z => absurd ⟨by decide, h.f0⟩ z⟩) (KSm.ft (a1.trans a2) (by decide))
      · rw [hmany, h4', if_neg (by decide), h.pl]
        exact sC_needNo rfl hroom hX
      · rw [if_pos h4']
        refine sT_readSort (d := e + 1) h0k h24 hs ⟨fun z => absurd z (by decide), fun _ => run1 _ ⟨fun z => absurd z c1, fun _ => ⟨fun z => absurd z c1, fun _ => run2 (Q ()) I hI hQ⟩⟩⟩
    · -- a part more
      obtain ⟨j, hj⟩ : ∃ j : Nat, tA τ 14 k = j := ⟨(tA τ 14 k).toNat, by omega⟩
      have hj4 : j < 4 := by omega
      have hj' : tA τ 14 (k : Int) = j := hj
      have hsort0 : tI τ 3 ≠ 0 := by
        intro z
        apply hs
        unfold srt
        rw [if_neg (by omega), if_neg (by omega)]
      -- the stores
      obtain ⟨w1, hw1⟩ : ∃ w1, w1 = pI (qI w (fR w 41 (kd w p k)) j (srt τ)) 42 (kd w p k) (j + 1 : Nat) := ⟨_, rfl⟩
      have K1 := KRs.part K hk hj hj4 hs0 (by omega)
      rw [← hw1] at K1
      have hsr : fR w 41 (kd w p k) = kd w p k + 1 := hkl.2.2.2.2.2.2.2.2.2.2.1
      have hF1 : Fr (p :: [x5, x5 + 1]) w w1 := by
        rw [hw1, hsr, ← hx5]
        exact ((Fr.refl _ w).sqI (Or.inl (by simp))).spI (Or.inl (by simp))
      have hP1 : ∀ S, PF S p w w1 := by
        intro S
        rw [hw1]
        exact ((PF.refl S p w).sqI).spI (Or.inr (by have := hkl.2.1; omega))
      have hW1 : WF p w1 := by rw [hw1]; exact W
      have hpot : pot w1 τ = pot w τ := by rw [hw1]; rfl
      have hmm : mu w1 = mu w ∧ mz w1 = mz w := ⟨hF1.emu, hF1.emz⟩
      have hx5z : x5 ≤ cz w := W.le (by rw [htag]; decide)
      have ht51 : tg w (x5 + 1) = 102 := by rw [hx5, ← hsr]; exact hkl.2.2.2.2.2.2.2.2.1
      have hx51z : x5 + 1 ≤ cz w := W.le (by rw [ht51]; decide)
      have hp5 : p + 8 < x5 := by rw [hx5]; exact hkl.2.1
      have h1 : RB p w1 τ := h.st hF1 (hP1 []) hW1 (fun f hf => by cases hf) (fun r hr => by
        rcases List.mem_cons.mp hr with y | y
        · rw [y]; exact ⟨by omega, Or.inr ⟨by rw [htag]; decide, hx5z⟩⟩
        · rw [List.mem_singleton.mp y]; exact ⟨by omega, Or.inr ⟨by rw [ht51]; decide, hx51z⟩⟩)
      have hR1 : Rm 200 w1 τ := by unfold Rm at *; rw [hpot, hmm.1, hmm.2]; exact hR
      have hR100 : Rm 100 w1 τ := by unfold Rm at *; omega
      obtain ⟨w2, σ, c2, p2, runN, g⟩ := nx (d := d + 1) (e := e + 1) (T := []) (S := [9, 10, 11, 12, 13, 14]) (S' := [2, 3, 4, 5, 6]) h1 hsort0 (fun f hf => hf) (fun f hf => hf) hR100
      -- the reference's stores behind its next
      obtain ⟨σ1, hσ1⟩ : ∃ σ1, σ1 = sA (sA σ 15 (4 * k + j : Nat) (srt τ)) 14 k (j + 1 : Nat) := ⟨_, rfl⟩
      have F1 : FT [2, 3, 4, 5, 6] (sA (sA τ 15 (4 * k + j : Nat) (srt τ)) 14 k (j + 1 : Nat)) σ1 := by rw [hσ1]; exact (c2.2.2.2.1.sta _ _ _).sta _ _ _
      have F2 : FT [14, 15] σ σ1 := by rw [hσ1]; exact ((FT.refl _ σ).ssA (by simp)).ssA (by simp)
      have F3 : FT S' τ σ1 := (c2.2.2.2.1.mono (fun f hf => hS' f (by simp at hf ⊢; omega))).trans (F2.mono (fun f hf => hS' f (by simp at hf ⊢; omega)))
      have Kσ : KSm k τ σ := KSm.ft c2.2.2.2.1 (by decide)
      have Kσ1 : KSm k τ σ1 := Kσ.trans (fun u hu => by
        rw [hσ1]
        refine ⟨by rw [tA_sA, if_neg (by omega), tA_sA, if_neg (by omega)], by rw [tA_sA, if_neg (by omega), tA_sA, if_neg (by omega)], by rw [tA_sA, if_neg (by omega), tA_sA, if_neg (by omega)], fun i hi => by rw [tA_sA, if_neg (by omega), tA_sA, if_neg (by omega)]⟩)
      have K2 : KRs p w2 σ1 k := KRs.fr hW1 K1 c2.1 c2.2.1 (fun r hr => by cases hr) (by decide) (by decide) F1 (fun f hf => by simp at hf; omega)
      have en2 : nK σ1 = k + 1 := by
        rw [← hk]; unfold nK
        rw [(F2 10 (by decide)).1, (c2.2.2.2.1 10 (by decide)).1]
      have ekd2 : ∀ i, kd w2 p i = kd w p i := fun i => by
        rw [KRs.kd_fr hW1 K1 c2.1 c2.2.1 (fun r hr => by cases hr) (by decide) i, hw1]; rfl
      have hT42 : x4 ∈ T ∨ x4 = 0 ∨ slU p w2 σ1 k x4 := hT4.imp id (fun q => q.imp id (fun q => q.fr (fun u _ => ekd2 u) (fun j _ => by rw [(F2 13 (by decide)).2, (c2.2.2.2.1 13 (by decide)).2])))
      have hx2 : UpK p w2 σ1 k x4 := hx.fr (fun u _ => ekd2 u) (by rw [(F2 13 (by decide)).2, (c2.2.2.2.1 13 (by decide)).2])
      have e14 : tA σ 14 (k : Int) = j := ((c2.2.2.2.1 14 (by decide)).2 _).trans hj
      have hc01 : CF p T S S' w τ w1 τ := ⟨hF1.mono (fun r hr => by
        rcases List.mem_cons.mp hr with y | y
        · exact Or.inl (List.mem_cons.mpr (Or.inl y))
        · refine Or.inl (List.mem_cons.mpr (Or.inr ?_))
          rcases List.mem_cons.mp y with x | x
          · rw [x]; exact hT5.1
          · rw [List.mem_singleton.mp x]; exact hT5.2), hP1 S, hW1, FT.refl _ _, Int.le_refl _, rfl⟩
      have hc2 : CF p T S S' w τ w2 σ1 := ⟨(hc01.trans c2 (fun r hr => by cases hr) hS (fun f hf => hS' f (by simp at hf ⊢; omega))).1, (hc01.trans c2 (fun r hr => by cases hr) hS (fun f hf => hS' f (by simp at hf ⊢; omega))).2.1, c2.2.2.1, F3, by rw [(F2 5 (by decide)).1]; exact c2.2.2.2.2.1, by rw [(F2 1 (by decide)).1]; exact c2.2.2.2.2.2⟩
      have hp2 : pot w2 σ1 ≤ pot w τ + (-5900) := by
        have : pot w2 σ1 = pot w2 σ := by unfold pot; rw [(F2 5 (by decide)).1, (F2 1 (by decide)).1]
        rw [this, ← hpot]; exact p2
      -- the component's way to its next
      have cmN : ∀ (Q : CW → Prop) (X : Nat → CW → Prop) (I : CW → Prop), wpC p (d + 13) 4 [ar p] w1 (zqV (fun u56 =>
            wpC p (d + 13) 16 [ar p, ai 44] u56 (zqI (fun v59 u58 =>
              (v59 = 0 →
                pC_X0_readKind_314 p (wpC p (d + 13)) Q X x4 u58) ∧
              (¬ (v59 = 0) →
                I u58)) zno)) (fun x65 u66 =>
            X x65 u66)) → bkC p (wpC p (d + 13)) Q X x4 x5 I w := by
        intro Q X I hn
        refine sC_readSort h K hs ⟨by rw [htag]; decide, fa ?_⟩
        rw [hmany, hj', if_pos (by omega)]
        refine sC_needOk (by decide) ⟨by rw [htag]; decide, by rw [htag]; decide, ⟨?_, by omega, ?_⟩, fa ⟨?_, ?_, fa ?_⟩⟩
        · rw [hx5, hsr, ← hx5]; exact ht51
        · rw [hmany, hj', hx5, hkl.2.2.2.2.2.2.2.2.2.1]; omega
        · show hF 42 (tg w x5) = true
          rw [htag]; decide
        · show hP 42 (tg w x5) = true
          rw [htag]; decide
        · have : pI (qI w (fR w 41 x5) (fI w 42 x5) (srt τ)) 42 x5 (w32 (fI (qI w (fR w 41 x5) (fI w 42 x5) (srt τ)) 42 x5 + 1)) = w1 := by
            have e1 : fI (qI w (fR w 41 x5) (fI w 42 x5) (srt τ)) 42 x5 = j := hmany.trans hj'
            rw [e1, hmany, hj', w32_k (by omega), hw1, ← hx5]
          rw [this]
          exact hn
      -- the reference's way to what stands behind its next
      have tmN : ∀ (Q : TW → Prop) (I : Int → TW → Prop), (∀ (x3 : Int) (w : TW), bkT (wpT (e + 6)) Q k I x3 w → I x3 w) → ((tI σ 7 = 0 → pT_readKind_219 (wpT (e + 6)) Q I k σ1) ∧ (¬ (tI σ 7 = 0) → pT_readKind_219 (wpT (e + 6)) Q I k σ)) → I 1 τ := by
        intro Q I hI hn
        refine hI _ _ ⟨fun _ => ⟨⟨by omega, by omega⟩, fa ?_⟩, fun z => absurd ⟨by decide, h.f0⟩ z⟩
        rw [if_neg (by omega)]
        refine sT_readSort (d := e + 1) h0k h24 hs ⟨fun _ => ⟨fun _ => runN _ ⟨fun z => ⟨⟨by omega, by omega⟩, ?_, fa ⟨⟨by omega, by omega⟩, ⟨by omega, by omega⟩, fa ?_⟩⟩, hn.2⟩, fun z => absurd h.f0 z⟩, fun z => absurd rfl z⟩
        · rw [e14, w32_s (a := 4 * (k : Int)) (by omega) (by omega), w32_s (by omega) (by omega)]; omega
        · have e1 : w32 ((w32 (4 * (k : Int))) + tA σ 14 k) = ((4 * k + j : Nat) : Int) := by
            rw [e14, w32_s (a := 4 * (k : Int)) (by omega) (by omega), w32_s (by omega) (by omega)]; omega
          have e2 : sA (sA σ 15 (w32 ((w32 (4 * (k : Int))) + tA σ 14 k)) (srt τ)) 14 k (w32 (tA (sA σ 15 (w32 ((w32 (4 * (k : Int))) + tA σ 14 k)) (srt τ)) 14 k + 1)) = σ1 := by
            have e3 : tA (sA σ 15 (w32 ((w32 (4 * (k : Int))) + tA σ 14 k)) (srt τ)) 14 k = j := e14
            rw [e3, e1, w32_k (by omega), hσ1]
          rw [e2]
          exact hn.1 z
      rcases g with ⟨g1, g4⟩ | ⟨hh, pl, x, g2, g3, g4⟩
      · -- behind the part
        have h2 : RB p w2 σ1 := g1.ft F2 (fun f hf => by simp at hf; omega)
        have hf0 : tI σ 7 = 0 := g1.f0
        have hR2 : Rm 200 w2 σ1 := by
          have := (hF1.trans' c2.1 (fun r hr => by
            rcases List.mem_cons.mp hr with y | y
            · exact Or.inl (List.mem_cons.mpr (Or.inl y))
            · cases y))
          unfold Rm at *
          rw [this.emu, this.emz]
          omega
        rcases ff_s01 44 σ1 with z | z
        · -- the last part
          have sk := OUT.skip (d := d) (e := e) (T := []) (S := [9, 10, 11, 12, 13, 14]) (S' := [2, 3, 4, 5, 6, 7, 8]) (c := 41) h2 (by decide) (fun f hf => hf) (fun f hf => hf) (by unfold Rm at *; omega)
          obtain ⟨w3, σ3, b3, c3, run3, g3⟩ := sk
          have toT : ∀ (Q : TW → Prop) (I : Int → TW → Prop), (∀ (x3 : Int) (w : TW), bkT (wpT (e + 6)) Q k I x3 w → I x3 w) → pT_readKind_229 (wpT (e + 6)) Q σ1 → I 1 τ := by
            intro Q I hI h229
            refine tmN Q I hI ⟨fun _ => ?_, fun y => absurd hf0 y⟩
            exact sT_takesNo z _ (hI _ _ ⟨fun y => absurd rfl y.1, fun _ => h229⟩)
          have toC : ∀ (Q : CW → Prop) (X : Nat → CW → Prop) (I : CW → Prop), pC_X0_readKind_314 p (wpC p (d + 13)) Q X x4 w2 → bkC p (wpC p (d + 13)) Q X x4 x5 I w := by
            intro Q X I h314
            refine cmN Q X I (g4 _ (sR_isSign h2 (by decide) ?_))
            rw [z]
            exact ⟨fun _ => h314, fun y => absurd rfl y⟩
          rcases g3 with ⟨a3, rb3, p3, -, k3⟩ | ⟨hh, pl, x, p3, wr3, dd3, k3⟩
          · have K3 : KRs p w3 σ3 k := KRs.fr c2.2.2.1 K2 c3.1 c3.2.1 (fun r hr => by cases hr) (by decide) (by decide) c3.2.2.2.1 (fun f hf => by simp at hf; omega)
            have en3 : nK σ3 = k + 1 := by rw [← en2]; unfold nK; rw [(c3.2.2.2.1 10 (by decide)).1]
            have hx3 : UpK p w3 σ3 k x4 := hx2.fr (fun u _ => KRs.kd_fr c2.2.2.1 K2 c3.1 c3.2.1 (fun r hr => by cases hr) (by decide) u) ((c3.2.2.2.1 13 (by decide)).2 _)
            have hR3 : Rm 100 w3 σ3 := by
              unfold Rm at *
              rw [c3.1.emu, c3.1.emz]
              omega
            obtain ⟨w4, σ4, b4, c4, run4, g4'⟩ := rk_320 (d := d + 1) (e := e) (T := T) (S := S) (S' := [2, 3, 4, 5, 6, 7, 8]) rb3 K3 en3 hx3 (hT42.imp id (fun q => q.imp id (fun q => q.fr (fun u _ => KRs.kd_fr c2.2.2.1 K2 c3.1 c3.2.1 (fun r hr => by cases hr) (by decide) u) (fun j _ => (c3.2.2.2.1 13 (by decide)).2 _)))) hS (fun f hf => hf) hR3
            refine ⟨w4, σ4, (), ⟨(hc2.trans c3 (fun r hr => by cases hr) hS (fun f hf => hS' f (by simp at hf ⊢; omega))).trans c4 (fun r hr => Or.inl hr) (fun f hf => hf) (fun f hf => hS' f (by simp at hf ⊢; omega)), (Kσ1.trans (KSm.ft c3.2.2.2.1 (by decide))).trans (KSm.ft c4.2.2.2.1 (by decide))⟩, fun Q hQ I hI => toT _ I hI (run3 (fun _ u => pT_readKind_235 (wpT (e + 6)) (Q ()) u) (run4 Q hQ)), ?_⟩
            rcases g4' with ⟨a4, rb4, p4, n4, k4⟩ | ⟨hh, pl, x, p4, wr4, dd4, k4⟩
            · exact Or.inl ⟨(), rb4, by omega, n4, fun Q X hQ I hI => toC _ X I (k3 (fun _ u => pC_X0_readKind_320 p (wpC p (d + 13)) (fun u => wpC p (d + 14) 4 [ar p] u (zqV (Q ()) X)) X x4 u) X (k4 Q X hQ))⟩
            · exact Or.inr ⟨hh, pl, x, by omega, wr4, dd4, fun Q X hX I hI => toC _ X I (k3 (fun _ u => pC_X0_readKind_320 p (wpC p (d + 13)) (fun u => wpC p (d + 14) 4 [ar p] u (zqV (Q ()) X)) X x4 u) X (k4 Q X hX))⟩
          · obtain ⟨σ4, ⟨f4, d4⟩, run4⟩ := dk_235 (e := e + 2) dd3
            have c23 := hc2.trans c3 (fun r hr => by cases hr) hS (fun f hf => hS' f (by simp at hf ⊢; omega))
            refine ⟨w3, σ4, (), ⟨⟨c23.1, c23.2.1, c23.2.2.1, c23.2.2.2.1.trans (f4.mono (fun f hf => hS' f (by simp at hf ⊢; omega))), by rw [(f4 5 (by decide)).1]; exact c23.2.2.2.2.1, by rw [(f4 1 (by decide)).1]; exact c23.2.2.2.2.2⟩, (Kσ1.trans (KSm.ft c3.2.2.2.1 (by decide))).trans (KSm.ft f4 (by decide))⟩, fun Q hQ I hI => toT _ I hI (run3 (fun _ u => pT_readKind_235 (wpT (e + 6)) (Q ()) u) (run4 _ hQ)), Or.inr ⟨hh, pl, x, ?_, wr3, d4, fun Q X hX I hI => toC _ X I (k3 (fun _ u => pC_X0_readKind_320 p (wpC p (d + 13)) (fun u => wpC p (d + 14) 4 [ar p] u (zqV (Q ()) X)) X x4 u) X hX)⟩⟩
            have : pot w3 σ4 = pot w3 σ3 := by unfold pot; rw [(f4 5 (by decide)).1, (f4 1 (by decide)).1]
            omega
        · -- a comma: once more
          have hs1 : tI σ1 3 ≠ 0 := by
            intro y
            have := ff_s0 (i := 44) (τ := σ1) (fun x => by omega)
            omega
          obtain ⟨w3, σ3, c3, p3, run3, g3⟩ := nx (d := d + 1) (e := e + 1) (T := []) (S := [9, 10, 11, 12, 13, 14]) (S' := [2, 3, 4, 5, 6]) h2 hs1 (fun f hf => hf) (fun f hf => hf) (by unfold Rm at *; omega)
          have c23 := hc2.trans c3 (fun r hr => by cases hr) hS (fun f hf => hS' f (by simp at hf ⊢; omega))
          have toT : ∀ (Q : TW → Prop) (I : Int → TW → Prop), (∀ (x3 : Int) (w : TW), bkT (wpT (e + 6)) Q k I x3 w → I x3 w) → I 1 σ3 → I 1 τ := by
            intro Q I hI h1
            refine tmN Q I hI ⟨fun _ => ?_, fun y => absurd hf0 y⟩
            exact sT_takesYes (d := e + 1) h2.f0 (by omega) run3 _ h1
          have toC : ∀ (Q : CW → Prop) (X : Nat → CW → Prop) (I : CW → Prop), I w2 → bkC p (wpC p (d + 13)) Q X x4 x5 I w := by
            intro Q X I h1
            refine cmN Q X I (g4 _ (sR_isSign h2 (by decide) ?_))
            rw [z]
            exact ⟨fun y => absurd y (by decide), fun _ => h1⟩
          have hK10 : tI σ3 10 = tI τ 10 := by
            rw [(c3.2.2.2.1 10 (by decide)).1, (F2 10 (by decide)).1, (c2.2.2.2.1 10 (by decide)).1]
          rcases g3 with ⟨rb3, k3⟩ | ⟨hh, pl, x, wr3, dd3, k3⟩
          · have K3 : KRs p w3 σ3 k := KRs.fr c2.2.2.1 K2 c3.1 c3.2.1 (fun r hr => by cases hr) (by decide) (by decide) c3.2.2.2.1 (fun f hf => by simp at hf; omega)
            have ekd3 : ∀ u, kd w3 p u = kd w2 p u := fun u => KRs.kd_fr c2.2.2.1 K2 c3.1 c3.2.1 (fun r hr => by cases hr) (by decide) u
            have hx3 : UpK p w3 σ3 k x4 := hx2.fr (fun u _ => ekd3 u) ((c3.2.2.2.1 13 (by decide)).2 _)
            have hR3 : Rm 200 w3 σ3 := by
              unfold Rm at *
              rw [c3.1.emu, c3.1.emz]
              omega
            have hmeas : (tI σ3 1 - tI σ3 5).toNat < n := by
              have q1 := c3.2.2.2.2.1
              have q2 := c23.2.2.2.2.2
              have q3 := c2.1.1
              have q4 := c2.1.2.1
              have q5 := h.rg
              have q6 := (F2 5 (by decide)).1
              have q7 := c2.2.2.2.2.2
              have q8 := h.2.2.2.2.1.2.2.2.2.2.1 hsort0
              unfold pot zm at p2
              omega
            obtain ⟨w4, σ4, b4, c4, run4, g4'⟩ := ih w3 σ3 hmeas rb3 K3 (by rw [← hk]; unfold nK; rw [hK10]) hx3 (hT42.imp id (fun q => q.imp id (fun q => q.fr (fun u _ => ekd3 u) (fun j _ => (c3.2.2.2.1 13 (by decide)).2 _)))) (by rw [ekd3, ekd2]; exact hx5) hR3
            refine ⟨w4, σ4, (), ⟨c23.trans c4.1 (fun r hr => Or.inl hr) (fun f hf => hf) (fun f hf => hf), (Kσ1.trans (KSm.ft c3.2.2.2.1 (by decide))).trans c4.2⟩, fun Q hQ I hI => toT _ I hI (run4 Q hQ I hI), ?_⟩
            rcases g4' with ⟨a4, rb4, p4, n4, k4⟩ | ⟨hh, pl, x, p4, wr4, dd4, k4⟩
            · exact Or.inl ⟨(), rb4, by omega, n4, fun Q X hQ I hI => toC _ X I (hI _ (k3 _ (k4 Q X hQ I hI)))⟩
            · exact Or.inr ⟨hh, pl, x, by omega, wr4, dd4, fun Q X hX I hI => toC _ X I (hI _ (k3 _ (k4 Q X hX I hI)))⟩
          · obtain ⟨σ4, ⟨f4, d4⟩, run4⟩ := dkk_153 (e := e) (k := k) dd3 (by rw [hK10]; exact h0k) (by rw [hK10]; exact h24) hk24
            refine ⟨w3, σ4, (), ⟨⟨c23.1, c23.2.1, c23.2.2.1, c23.2.2.2.1.trans (f4.mono (fun f hf => hS' f (by simp at hf ⊢; omega))), by rw [(f4 5 (by decide)).1]; exact c23.2.2.2.2.1, by rw [(f4 1 (by decide)).1]; exact c23.2.2.2.2.2⟩, (Kσ1.trans (KSm.ft c3.2.2.2.1 (by decide))).trans (KSm.ft f4 (by decide))⟩, fun Q hQ I hI => toT _ I hI (run4 _ I hI hQ), Or.inr ⟨hh, pl, x, ?_, wr3, d4, fun Q X hX I hI => toC _ X I (hI _ (k3 _ hX))⟩⟩
            have : pot w3 σ4 = pot w3 σ3 := by unfold pot; rw [(f4 5 (by decide)).1, (f4 1 (by decide)).1]
            omega
      · -- the token behind the part is wrong
        have c12 := hc01.trans c2 (fun r hr => by cases hr) hS (fun f hf => hS' f (by simp at hf ⊢; omega))
        by_cases hf0 : tI σ 7 = 0
        · obtain ⟨σ4, ⟨f4, d4⟩, run4⟩ := dk_219 (e := e + 2) (k := (k : Int)) (g3.ft F2 (fun f hf => by simp at hf; omega))
          refine ⟨w2, σ4, (), ⟨⟨c12.1, c12.2.1, c12.2.2.1, F3.trans (f4.mono (fun f hf => hS' f (by simp at hf ⊢; omega))), by rw [(f4 5 (by decide)).1]; exact hc2.2.2.2.2.1, by rw [(f4 1 (by decide)).1]; exact hc2.2.2.2.2.2⟩, Kσ1.trans (KSm.ft f4 (by decide))⟩, fun Q hQ I hI => tmN _ I hI ⟨fun _ => run4 _ I hI hQ, fun y => absurd hf0 y⟩, Or.inr ⟨hh, pl, x, ?_, g2, d4, fun Q X hX I hI => cmN _ X I (g4 _ hX)⟩⟩
          have : pot w2 σ4 = pot w2 σ1 := by unfold pot; rw [(f4 5 (by decide)).1, (f4 1 (by decide)).1]
          omega
        · obtain ⟨σ4, ⟨f4, d4⟩, run4⟩ := dk_219 (e := e + 2) (k := (k : Int)) g3
          refine ⟨w2, σ4, (), ⟨⟨c12.1, c12.2.1, c12.2.2.1, c12.2.2.2.1.trans (f4.mono (fun f hf => hS' f (by simp at hf ⊢; omega))), by rw [(f4 5 (by decide)).1]; exact c12.2.2.2.2.1, by rw [(f4 1 (by decide)).1]; exact c12.2.2.2.2.2⟩, Kσ.trans (KSm.ft f4 (by decide))⟩, fun Q hQ I hI => tmN _ I hI ⟨fun y => absurd y hf0, fun _ => run4 _ I hI hQ⟩, Or.inr ⟨hh, pl, x, ?_, g2, d4, fun Q X hX I hI => cmN _ X I (g4 _ hX)⟩⟩
          have : pot w2 σ4 = pot w2 σ := by unfold pot; rw [(f4 5 (by decide)).1, (f4 1 (by decide)).1]
          omega
end ZRKind2
