/-! alternatives, both: their loop, its parts -/
section ZEith4
variable {p b e d : Nat} {w : CW} {τ : TW}
theorem Fr.sqC {T : List Nat} {w w' : CW} (h : Fr T w w') {s r : Nat} {sp dp n : Int} (hr : r ∈ T ∨ cz w < r) : Fr T w (qC w' s sp r dp n) :=
  ⟨h.1, h.2.1, h.2.2.1, h.2.2.2.1, fun q hq ht => by
    have e : q ≠ r := by rintro rfl; rcases hr with x | x; exact ht x; omega
    rw [← h.2.2.2.2 q hq ht]
    have k1 : aI (qC w' s sp r dp n) q = aI w' q := by funext j; rw [aI_qC, if_neg (fun x => e x.1)]
    have k2 : aR (qC w' s sp r dp n) q = aR w' q := by funext j; rw [aR_qC, if_neg (fun x => e x.1)]
    show (_, _, _, _, aI (qC w' s sp r dp n) q, aR (qC w' s sp r dp n) q) = _
    rw [k1, k2]; rfl⟩
theorem WF.sqC (h : WF p w) (s : Nat) (sp : Int) (r : Nat) (dp n : Int) : WF p (qC w s sp r dp n) := h
/-- the object of alternatives -/
theorem ei_obj {u : CW} {a m : Nat} (W : WF p u) (ta : tg u a = 114) (la : ln u a = 6) (hm : m ≤ 6) (hr : ∀ j : Nat, j < m → 6 ≤ tg u (aR u a j) ∧ tg u (aR u a j) ≤ 12) (hroom : cz u + 2 ≤ mz u ∧ cu u + 8 ≤ mu u) : ∃ u', Fr [] u u' ∧ WF p u' ∧ cz u' = cz u + 2 ∧ cu u' = cu u + (m + 2) ∧ tg u' (cz u + 2) = 9 ∧ fI u' 68 (cz u + 2) = -1 ∧ fR u' 73 (cz u + 2) = cz u + 1 ∧ tg u' (cz u + 1) = 114 ∧ ln u' (cz u + 1) = m ∧ (∀ j : Nat, j < m → aR u' (cz u + 1) j = aR u a j) ∧ ∀ (Q : Nat → CW → Prop) (X : Nat → CW → Prop), Q (cz u + 2) u' → pC_X0_either_328 p (wpC p (d + 5)) Q X a (m : Int) u := by
  have la' := W.le (r := a) (by rw [ta]; decide)
  obtain ⟨v1, h1⟩ : ∃ v1, v1 = nA u 114 m := ⟨_, rfl⟩
  obtain ⟨v2, h2⟩ : ∃ v2, v2 = qC v1 a 0 (cz u + 1) 0 (m : Int) := ⟨_, rfl⟩
  obtain ⟨v3, h3⟩ : ∃ v3, v3 = nO v2 9 2 := ⟨_, rfl⟩
  obtain ⟨v4, h4⟩ : ∃ v4, v4 = pR (pI v3 68 (cz u + 2) (-1)) 73 (cz u + 2) (cz u + 1) := ⟨_, rfl⟩
  have cz1 : cz v1 = cz u + 1 := by rw [h1]; rfl
  have cz2 : cz v2 = cz u + 1 := by rw [h2]; exact cz1
  have F1 : Fr [] u v1 := by rw [h1]; exact (Fr.refl [] u).snA
  have F2 : Fr [] u v2 := by rw [h2]; exact F1.sqC (Or.inr (by omega))
  have F3 : Fr [] u v3 := by rw [h3]; exact F2.snO
  have F4 : Fr [] u v4 := by rw [h4]; exact (F3.spI (Or.inr (by omega))).spR (Or.inr (by omega))
  have t1 : tg v1 (cz u + 1) = 114 := by rw [h1]; exact if_pos rfl
  have l1 : ln v1 (cz u + 1) = m := by rw [h1]; exact if_pos rfl
  have oa := F1.2.2.2.2 a la' (by simp)
  have t3 : tg v3 (cz u + 2) = 9 := by rw [h3]; exact if_pos (by rw [cz2])
  have e3 : cz v2 + 1 = cz u + 2 := by rw [cz2]
  refine ⟨v4, F4, ?_, ?_, ?_, ?_, ?_, ?_, ?_, ?_, fun j hj => ?_, fun Q X hQ => bC_X0_either_328 ⟨⟨by omega, by omega, by show cu u + m ≤ mu u; omega⟩, fa ?_⟩⟩
  · rw [h4, h3, h2, h1]; exact (((((W.snA 114 m).sqC _ _ _ _ _).snO 9 2).spI _ _ _).spR _ _ _)
  · rw [h4]; show cz v3 = _; rw [h3]; show cz v2 + 1 = _; rw [cz2]
  · rw [h4]; show cu v3 = _; rw [h3]; show cu v2 + 2 = _; rw [h2]; show cu v1 + 2 = _; rw [h1]; show cu u + m + 2 = _; omega
  · rw [h4]; exact t3
  · rw [h4, fI_pR]; exact fI_at _ _ _ _
  · rw [h4]; exact fR_at _ _ _ _
  · rw [h4]; show tg v3 (cz u + 1) = _; rw [h3]; show (if cz u + 1 = cz v2 + 1 then 9 else tg v2 (cz u + 1)) = _; rw [if_neg (by omega), h2]; exact t1
  · rw [h4]; show ln v3 (cz u + 1) = _; rw [h3]; show ln v2 (cz u + 1) = _; rw [h2]; exact l1
  · rw [h4]; show aR v3 (cz u + 1) j = _; rw [h3, aR_nO, h2, aR_qC, if_pos ⟨rfl, by omega, by omega⟩]
    rw [show (0 : Int) + ((j : Int) - 0) = j by omega, ob.eaR oa]
  · have em : Int.toNat (m : Int) = m := rfl
    rw [em, ← h1]
    refine ⟨⟨⟨by omega, by omega, by omega, by rw [ob.eln oa, la]; omega, by rw [l1]; omega⟩, Or.inr (Or.inr (Or.inr ⟨by rw [t1]; omega, by rw [ob.etg oa, ta]; omega, fun k k1 k2 => ?_⟩))⟩, fa ?_⟩
    · obtain ⟨j, hj⟩ : ∃ j : Nat, k = j := ⟨k.toNat, by omega⟩
      subst hj
      right
      have hj := hr j (by omega)
      rw [ob.eaR oa, t1, (F1.2.2.2.1 _ (W.le (by omega))).1]
      exact zst_p hj
    · rw [← h2]
      refine ⟨⟨by rw [cz2]; show cz u + 1 + 1 ≤ mz v2; rw [h2]; show _ ≤ mz v1; rw [h1]; exact hroom.1, by rw [h2]; show cu v1 + 2 ≤ mu v1; rw [h1]; show cu u + m + 2 ≤ mu u; omega⟩, fa ?_⟩
      rw [← h3, e3]
      refine sC_iEither (d := d + 3) (by omega) t3 ?_
      rw [← h4]
      exact hQ
/-- one alternative's reading, in the component -/
def ANe2 (p : Nat) (call : Nat → List ZA → CW → (ZRes → CW → Prop) → Prop) (Q : Nat → CW → Prop) (X : Nat → CW → Prop) (I42 : Int → Int → Int → CW → Prop) (x1 x2 : Int) (x3 : Nat) (x4 x5 x6 : Int) (x7 : Nat) (x8 : Int) (u15 : CW) : Prop :=
        ∀ x4_18 : Int, x4_18 = w32 (x4 + 1) →
        ∀ x10_19 : Int, x10_19 = i_and (fI u15 18 p) (i_xor x5 (-1)) →
        ∀ v20 : Int, v20 = (if x4_18 = 1 then x10_19 else x6) →
        ∀ v21 : Int, v21 = (if x10_19 = v20 then 1 else 0) →
        ∀ x8_22 : Int, x8_22 = i_and x8 v21 →
        pC_X0_either_130 p call Q X I42 x1 x2 x3 x4_18 x5 v20 x7 x8_22 x10_19 0 u15
def ANe1 (p : Nat) (call : Nat → List ZA → CW → (ZRes → CW → Prop) → Prop) (x1 x2 : Int) (x3 : Nat) (x5 : Int) (x7 : Nat) (x4 x6 x8 : Int) (u12 : CW) (Q : Nat → CW → Prop) (X : Nat → CW → Prop) (I42 : Int → Int → Int → CW → Prop) : Prop :=
      call 22 [ar p, ai x1] u12 (zqR (fun v14 u13 =>
        ((111 ≤ tg u13 x3 ∧ tg u13 x3 ≤ 119) ∧ 0 ≤ x4 ∧ x4 < ln u13 x3) ∧
        (v14 = 0 ∨ zst (tg u13 x3) (tg u13 v14) = true) ∧
        ∀ u15 : CW, u15 = qR u13 x3 x4 v14 →
        ANe2 p call Q X I42 x1 x2 x3 x4 x5 x6 x7 x8 u15) (fun x81 u82 =>
        X x81 u82))
def ANe0 (p : Nat) (call : Nat → List ZA → CW → (ZRes → CW → Prop) → Prop) (x1 x2 : Int) (x3 : Nat) (x5 : Int) (x7 : Nat) (x4 x6 x8 : Int) (u8 : CW) (Q : Nat → CW → Prop) (X : Nat → CW → Prop) (I42 : Int → Int → Int → CW → Prop) : Prop :=
      ∀ u10 : CW, u10 = pI u8 18 p x5 →
      ∀ v11 : Int, v11 = (if x4 = 6 then 1 else 0) →
      ∀ u12 : CW, u12 = pI u10 20 p v11 →
      ANe1 p call x1 x2 x3 x5 x7 x4 x6 x8 u12 Q X I42
def Le (p M : Nat) (x1 x2 : Int) (x3 : Nat) (x5 : Int) (x7 : Nat) (Q : Nat → CW → Prop) (X : Nat → CW → Prop) (I42 : Int → Int → Int → CW → Prop) : Prop := ∀ (x4 x6 x8 : Int) (w : CW), wpC p M 4 [ar p] w (zqV (fun u8 => ANe0 p (wpC p M) x1 x2 x3 x5 x7 x4 x6 x8 u8 (fun v w => Q v w) (fun x w => X x w) I42) (fun x85 u86 => X x85 u86)) → I42 x4 x6 x8 w
theorem pC_e42 {M : Nat} {Q : Nat → CW → Prop} {X : Nat → CW → Prop} {x1 x2 x4 x5 x6 x8 : Int} {x3 x7 : Nat} {w : CW} : pC_X0_either_42 p (wpC p M) Q X x1 x2 x3 x4 x5 x6 x7 x8 w = ∀ I42 : Int → Int → Int → CW → Prop, Le p M x1 x2 x3 x5 x7 Q X I42 → I42 x4 x6 x8 w := rfl
/-- behind an alternative, the reference -/
theorem gE0 {o q : Nat} {σ : TW} (h32 : tI τ 32 = ((o + 1 : Nat) : Int)) (ho : o < 8) (h33 : tA τ 33 o = q) (hq : q < 1700) (h17 : tA τ 17 q = 6) (run37 : ∀ Q, Q (.inl none) σ → wpT (e + 7) 37 [] τ Q) {Q : ZRes → TW → Prop}
    (hQ : wpT (e + 7) 17 [ai 124] σ (zqI (fun v14 u13 =>
        (v14 = 0 →
          ((ff_isSign 41 u13) = 0 →
            pT_goesOn_210 (wpT (e + 7)) (fun v w => Q (.inl (some (ai v))) w) u13) ∧
          (¬ ((ff_isSign 41 u13) = 0) →
            (0 ≤ (o : Int) ∧ (o : Int) < 8) ∧
            ((tA u13 39 o) = 0 →
              pT_goesOn_148 (wpT (e + 7)) (fun v w => Q (.inl (some (ai v))) w) o u13) ∧
            (¬ ((tA u13 39 o) = 0) →
              (0 ≤ (o : Int) ∧ (o : Int) < 8) ∧
              wpT (e + 7) 13 [ai 8, ai (tA u13 36 o)] u13 (zqV (fun u36 =>
                pT_goesOn_148 (wpT (e + 7)) (fun v w => Q (.inl (some (ai v))) w) o u36) zno)))) ∧
        (¬ (v14 = 0) →
          (0 ≤ (o : Int) ∧ (o : Int) < 8) ∧
          ∀ u38 : TW, u38 = sI u13 31 (tA u13 37 o) →
          Q (.inl (some (ai 1))) u38)) zno)) : wpT (e + 8) 36 [] τ Q := by
  have ek : w32 ((tI τ 32) - 1) = (o : Int) := by rw [h32, w32_s (by omega) (by omega)]; omega
  refine wT_goesOn (by omega) (bT_goesOn_0 (fa ?_))
  rw [ek]
  refine ⟨by omega, fa ?_⟩
  rw [h33]
  exact ⟨by omega, br0 (by omega) (run37 _ hQ)⟩
/-- a sign that must come, and does -/
theorem sT_must1 {c : Int} {σ : TW} (h0 : tI τ 7 = 0) (h : ff_isSign c τ ≠ 0) (run : ∀ K : Unit → TW → Prop, K () σ → wpT (d + 4) 4 [] τ (zqV (K ()) zno)) {Q : ZRes → TW → Prop} (hQ : Q (.inl none) σ) : wpT (d + 6) 20 [ai c] τ Q :=
  wT_must (Nat.zero_le _) ⟨fun _ => sT_takes1 h0 h (run (fun _ => _) ⟨Or.inr rfl, fun y => absurd y (by decide), fun _ => hQ⟩), fun z => absurd h0 z⟩
/-- a call of both within a loop of the component's, the reference's in run form -/
theorem OUTb.kBVr {ι α α1 β1 : Type} {b0 : Nat} {T S S' T1 S1 S1' : List Nat} {A a1 t1 a t : Int} {N : α → Int × Int → CW → TW → Prop} {N1 : α1 → β1 → CW → TW → Prop} {L FC : (α → CW → Prop) → (Nat → CW → Prop) → ι → Prop} {F2 : CW → (α → CW → Prop) → (Nat → CW → Prop) → ι → Prop} {cm1 : (α1 → CW → Prop) → (Nat → CW → Prop) → Prop} {tm1 : (β1 → TW → Prop) → Prop} {G : PI → PQ → Int → TW → Prop} {F : PI → PQ → Prop} {FT2 : TW → PI → PQ → Prop} (hR : Rm A w τ)
    (h1 : OUT p T1 S1 S1' a1 t1 N1 cm1 tm1 w τ) (hC : ∀ Q X I, L Q X I → cm1 (fun _ u => F2 u Q X I) X → FC Q X I) (hT : ∀ I QF b1 σ, Ccl e I QF → (∀ P : β1 → TW → Prop, P b1 σ → tm1 P) → FT2 σ I QF → F I QF)
    (h2 : ∀ v v' u σ, RB p u σ → N1 v v' u σ → CF p T1 S1 S1' w τ u σ → Rm (A - a1) u σ → OUTb p b0 T S S' (a - a1) (t - a1) N (cmG L (F2 u)) (tmG e G (FT2 σ)) u σ)
    (hd : ∀ h pl σ, Dd h pl σ → FT S1' τ σ → DD S' h pl (tmG e G (FT2 σ)) σ)
    (hTT : ∀ r, r ∈ T1 → r ∈ T ∨ b0 < r := by first | exact fun r hr => Or.inl hr | (intro r hr; cases hr)) (hS : ∀ f, f ∈ S1 → f ∈ S := by first | decide | exact fun f hf => hf | (intro f hf; cases hf; done)) (hS' : ∀ f, f ∈ S1' → f ∈ S' := by first | decide | exact fun f hf => hf | (intro f hf; cases hf; done)) (ht : t1 ≤ t := by decide) : OUTb p b0 T S S' a t N (cmG L FC) (tmG e G F) w τ :=
  OUTb.bd00 (cm2 := fun _ u => cmG L (F2 u)) (tm2 := fun _ σ => tmG e G (FT2 σ)) hR h1 (fun Q X _ _ run k I l => hC Q X I l (run _ (k I l))) (fun Q X k I l => hC Q X I l (k _)) (fun Q b1 τ1 run h I QF cl h1 h2 => hT I QF b1 τ1 cl run (h I QF cl h1 h2)) (fun v v' u σ => h2 v v' u σ) (fun h pl _ σ => hd h pl σ) hTT hS hS' ht
/-- the component moves within its loop -/
theorem OUTb.kC {ι α : Type} {b0 : Nat} {T S S' T1 S1 : List Nat} {A k a t : Int} {β : Type} {N : α → β → CW → TW → Prop} {L F : (α → CW → Prop) → (Nat → CW → Prop) → ι → Prop} {tm : (β → TW → Prop) → Prop} {F2 : CW → (α → CW → Prop) → (Nat → CW → Prop) → ι → Prop} (hR : Rm A w τ) (h : RB p w τ) (v : CW) (hF : Fr (p :: T1) w v) (hP : PF S1 p w v) (hW : WF p v) (hk : zm v ≤ zm w + k) (h0 : 0 ≤ k) (hC : ∀ Q X I, L Q X I → (∀ u, u = v → F2 u Q X I) → F Q X I)
    (hT : ∀ r, r ∈ T1 → (r ∈ T ∨ b0 < r) ∧ p ≤ r ∧ (cz w < r ∨ (tg w r ≠ 101 ∧ r ≤ cz w)))
    (h2 : ∀ u, u = v → RB p u τ → CF p T1 S1 [] w τ u τ → Rm (A - k) u τ → OUTb p b0 T S S' (a - k) (t - k) N (cmG L (F2 u)) tm u τ) (hS : ∀ f, f ∈ S1 → f ∈ S := by first | decide | exact fun f hf => hf | (intro f hf; cases hf; done)) (h7 : ∀ f, f ∈ S1 → f < 7 ∨ 14 < f := by decide) : OUTb p b0 T S S' a t N (cmG L F) tm w τ :=
  OUTb.cw (cm2 := fun u => cmG L (F2 u)) hR h v hF hP hW hk h0 (fun Q X g I l => hC Q X I l (fun u hu => g u hu I l)) hT h2 hS h7
end ZEith4
