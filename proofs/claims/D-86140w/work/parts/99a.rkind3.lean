/-! a line of a kind, both: from its name on -/
section ZRKind3
variable {p d e : Nat} {w : CW} {τ : TW}
/-- the reference's rows behind a name; before: τ0 -/
def NewK (τ0 τ : TW) (v uv : Int) : Prop := tI τ 10 = tI τ0 10 + 1 ∧ (∀ j : Nat, tA τ 12 j = if j = nK τ0 then v else tA τ0 12 j) ∧ (∀ j : Nat, tA τ 13 j = if j = nK τ0 then uv else tA τ0 13 j) ∧ (∀ j : Nat, tA τ 14 j = if j = nK τ0 then 0 else tA τ0 14 j) ∧ ∀ i, tA τ 15 i = tA τ0 15 i
theorem NewK.ft {τ0 τ' : TW} {v uv : Int} {S : List Nat} (h : NewK τ0 τ v uv) (F : FT S τ τ') (hS : ∀ f, f ∈ S → f < 10 ∨ 15 < f) : NewK τ0 τ' v uv := by
  have g : ∀ f, 10 ≤ f → f ≤ 15 → tI τ' f = tI τ f ∧ ∀ i, tA τ' f i = tA τ f i := fun f h1 h2 => F f (fun z => by have := hS f z; omega)
  obtain ⟨a, b, c, e, f⟩ := h
  exact ⟨by rw [(g 10 (by decide) (by decide)).1]; exact a, fun j => by rw [(g 12 (by decide) (by decide)).2]; exact b j, fun j => by rw [(g 13 (by decide) (by decide)).2]; exact c j, fun j => by rw [(g 14 (by decide) (by decide)).2]; exact e j, fun i => by rw [(g 15 (by decide) (by decide)).2]; exact f i⟩
theorem dk_142 {h pl k : Int} (D : Dd h pl τ) : ∃ τ', (FT [7, 8] τ τ' ∧ Dd h pl τ') ∧ ∀ (Q : TW → Prop), Q τ' → pT_readKind_142 (wpT (e + 4)) Q k τ := by
  obtain ⟨τ', h1, run⟩ := dk_235 (e := e) D
  exact ⟨τ', h1, fun Q hQ => dd_takes D _ ⟨fun _ => run Q hQ, fun z => absurd rfl z⟩⟩
theorem KRs.kd_fr2 {m : Nat} {T S : List Nat} {w' : CW} {τ : TW} (hW : WF p w) (h : KRs p w τ m) (hf : Fr (p :: T) w w') (hp : PF S p w w') (hT : fR w 0 p ∉ T) (h0 : 0 ∉ S) (j : Nat) : kd w' p j = kd w p j := by
  obtain ⟨⟨a1, a2, a3, a4⟩, -⟩ := h
  have nT0 : fR w 0 p ∉ p :: T := by
    intro hm
    rcases List.mem_cons.mp hm with z | z
    · omega
    · exact hT z
  have o0 := hf.eob hW (r := fR w 0 p) (by rw [a1]; decide) nT0
  unfold kd
  rw [(hp 0 h0).2, ob.eaR o0]
/-- an outcome that leaves the first n kinds at their places -/
def OUTg {α β : Type} (n p : Nat) (T S S' : List Nat) (an at' : Int) (N : α → β → CW → TW → Prop) (cm : (α → CW → Prop) → (Nat → CW → Prop) → Prop) (tm : (β → TW → Prop) → Prop) (w : CW) (τ : TW) : Prop :=
  ∃ w' τ' b, (CF p T S S' w τ w' τ' ∧ (∀ u, u < n → kd w' p u = kd w p u) ∧ KSm n τ τ') ∧ (∀ Q, Q b τ' → tm Q) ∧ ((∃ a, RB p w' τ' ∧ pot w' τ' ≤ pot w τ + an ∧ N a b w' τ' ∧ ∀ Q X, Q a w' → cm Q X) ∨ (∃ h pl x, pot w' τ' ≤ pot w τ + at' ∧ Wr w' x h pl ∧ Dd h pl τ' ∧ ∀ Q X, X x w' → cm Q X))
theorem OUTg.out {α β : Type} {n : Nat} {T S S' : List Nat} {an at' : Int} {N : α → β → CW → TW → Prop} {cm : (α → CW → Prop) → (Nat → CW → Prop) → Prop} {tm : (β → TW → Prop) → Prop} (h : OUTg n p T S S' an at' N cm tm w τ) : OUT p T S S' an at' N cm tm w τ := by
  obtain ⟨w', τ', b, c, r, k⟩ := h
  exact ⟨w', τ', b, c.1, r, k⟩
theorem wrW_kd {m : Nat} {τ : TW} (hW : WF p w) (h : KRs p w τ m) (how pl : Int) (u : Nat) : kd (wrW w how pl) p u = kd w p u := KRs.kd_fr2 hW h (wrW_fr (p :: []) w how pl) (wrW_st hW [] [] how pl).2.1 (fun z => by cases z) (by decide) u
theorem OUTg.thr' {α β : Type} {n m : Nat} {τ0 : TW} {T S S' : List Nat} {an at' : Int} {N : α → β → CW → TW → Prop} {cm : (α → CW → Prop) → (Nat → CW → Prop) → Prop} {tm : (β → TW → Prop) → Prop} {how : Int} {b : β} {τ' : TW} (h : RB p w τ) (K : KRs p w τ0 m) (ha : 13 ≤ at') (hc : ∀ Q X, X (cz w + 1) (wrW w how (tI τ 5)) → cm Q X) (hF : FT [7, 8] τ τ') (h7 : 7 ∈ S' ∧ 8 ∈ S') (hD : Dd how (tI τ 5) τ') (ht : ∀ Q, Q b τ' → tm Q) : OUTg n p T S S' an at' N cm tm w τ := by
  refine ⟨wrW w how (tI τ 5), τ', b, ⟨⟨wrW_fr _ _ _ _, (wrW_st h.1 [] S how _).2.1, (wrW_st h.1 [] S how _).2.2.1, hF.mono (fun f hf => by
    rcases List.mem_cons.mp hf with y | y
    · rw [y]; exact h7.1
    · rw [List.mem_singleton.mp y]; exact h7.2), by rw [(hF 5 (by decide)).1]; exact Int.le_refl _, (hF 1 (by decide)).1⟩, fun u _ => wrW_kd h.1 K _ _ u, KSm.ft hF (by decide)⟩, ht, Or.inr ⟨how, _, cz w + 1, ?_, wrW_wr _ _ _, hD, hc⟩⟩
  have e1 : cz (wrW w how (tI τ 5)) = cz w + 1 := rfl
  have e2 : cu (wrW w how (tI τ 5)) = cu w + 8 := rfl
  unfold pot zm
  rw [(hF 5 (by decide)).1, (hF 1 (by decide)).1, e1, e2]
  omega
theorem rk_197 {x4 : Nat} {v uv : Int} {S S' T : List Nat} {τ0 : TW} (h : RB p w τ) (K : KR p w τ0) (hn : nK τ0 < 24) (hN : NewK τ0 τ v uv) (hv : ∀ j, j < nK τ0 → tA τ0 12 j ≠ v) (hx : (x4 = 0 ∧ uv = -4) ∨ ∃ u : Nat, u < nK τ0 ∧ x4 = kd w p u ∧ uv = u ∧ tA τ0 14 u = 0) (hT : x4 ∈ T ∨ x4 = 0 ∨ slU p w τ0 (nK τ0) x4) (hT0 : fR w 0 p ∈ T) (hS : ∀ f, f ∈ [1, 9, 10, 11, 12, 13, 14] → f ∈ S) (h0S : 0 ∉ S) (hS' : ∀ f, f ∈ [2, 3, 4, 5, 6, 7, 8, 14, 15] → f ∈ S') (hR : Rm 400 w τ) :
    OUTg (nK τ0) p T S S' (-5800) 40 (fun (_ : Unit) (_ : Unit) w' τ' => KR p w' τ' ∧ nK τ' = nK τ0 + 1) (fun Q X => pC_X0_readKind_197 p (wpC p (d + 13)) (fun u => wpC p (d + 14) 4 [ar p] u (zqV (Q ()) X)) X v x4 w) (fun Q => pT_readKind_142 (wpT (e + 6)) (Q ()) (nK τ0) τ) w τ := by
  obtain ⟨e10, e12, e13, e14, e15⟩ := hN
  obtain ⟨K1, en, ek, ekj⟩ := KRs.new h.1 K hn hv hx e10 e12 e13 e14 e15
  have h24 : fI w 1 p < 24 := by
    have a : fI w 1 p = tI τ0 10 := K.2.1
    have b : 0 ≤ tI τ0 10 := K.2.2.1
    have c : nK τ0 = (tI τ0 10).toNat := rfl
    omega
  obtain ⟨F1, P1, W1⟩ := nkW_fr h.1 h24 v x4
  have W := h.1
  have hz := W.pz
  have a1 := K.1.1
  have b1 := K.2.1
  have hk24 : tI τ0 10 ≤ 24 := K.2.2.2.1
  have hk0 : 0 ≤ tI τ0 10 := K.2.2.1
  have hnk : (nK τ0 : Int) = tI τ0 10 := by unfold nK; omega
  have hroom := Rm.room h hR (k := 3) (n := 20) (by decide)
  obtain ⟨w1, hw1⟩ : ∃ w1, w1 = nkW p w v x4 := ⟨_, rfl⟩
  -- the component's way
  have cm : ∀ (Q : CW → Prop) (X : Nat → CW → Prop), wpC p (d + 13) 16 [ar p, ai 40] w1 (zqI (fun v30 u29 =>
      (v30 = 0 →
        pC_X0_readKind_320 p (wpC p (d + 13)) Q X x4 u29) ∧
      (¬ (v30 = 0) →
        pC_X0_readKind_243 p (wpC p (d + 13)) Q X x4 (cz w + 1) u29)) zno) → pC_X0_readKind_197 p (wpC p (d + 13)) Q X v x4 w := by
    intro Q X hn
    have t1 : tg (nO w 3 6) (cz w + 1) = 3 := by rw [tg_nO]; exact if_pos rfl
    have t2 : tg (nA (nO w 3 6) 102 4) (cz w + 1) = 3 := by
      rw [tg_nA, if_neg (by show cz w + 1 ≠ cz w + 1 + 1; omega)]; exact t1
    have e1 : fI (nO w 3 6) 1 p = fI w 1 p := by rw [fI_nO]; exact if_neg (by omega)
    have haz := W.le (r := fR w 0 p) (by rw [a1]; decide)
    have e0 : fR (nO w 3 6) 0 p = fR w 0 p := by rw [fR_nO]; exact if_neg (by omega)
    have t4 : tg (nA (nO w 3 6) 102 4) (fR w 0 p) = 112 := by
      rw [tg_nA, if_neg (by show fR w 0 p ≠ cz w + 1 + 1; omega), tg_nO, if_neg (by omega)]; exact a1
    have l4 : ln (nA (nO w 3 6) 102 4) (fR w 0 p) = 24 := by
      rw [ln_nA, if_neg (by show fR w 0 p ≠ cz w + 1 + 1; omega)]; exact K.1.2.1
    refine ⟨⟨by omega, by omega⟩, fa (wC_X3_init (Nat.zero_le _) ⟨by omega, ⟨⟨by decide, by decide⟩, by show cz w + 1 + 1 ≤ mz w; omega, by show cu w + 6 + 4 ≤ mu w; omega⟩, fa ⟨by show hP 41 (tg (nA (nO w 3 6) 102 4) (cz w + 1)) = true; rw [t2]; decide, fa ⟨by show hP 37 (tg (nA (nO w 3 6) 102 4) (cz w + 1)) = true; rw [t2]; decide, fa ⟨by show hP 38 (tg (nA (nO w 3 6) 102 4) (cz w + 1)) = true; rw [t2]; decide, fa ⟨by show hP 39 (tg (nA (nO w 3 6) 102 4) (cz w + 1)) = true; rw [t2]; decide, fa ?_⟩⟩⟩⟩⟩)⟩
    rw [e1]
    -- the state behind the new kind's birth
    obtain ⟨u, hu⟩ : ∃ u, u = pR (pI (pI (pR (nA (nO w 3 6) 102 4) 41 (cz w + 1) (cz w + 1 + 1)) 37 (cz w + 1) (fI w 1 p)) 38 (cz w + 1) v) 39 (cz w + 1) x4 := ⟨_, rfl⟩
    have u0 : fR u 0 p = fR w 0 p := by
      rw [hu, fR_of _ _ _ _ (by decide)]
      show fR (pR (nA (nO w 3 6) 102 4) 41 (cz w + 1) (cz w + 1 + 1)) 0 p = _
      rw [fR_of _ _ _ _ (by decide)]
      exact e0
    have u1 : fI u 1 p = fI w 1 p := by
      rw [hu]
      show fI (pI (pI (pR (nA (nO w 3 6) 102 4) 41 (cz w + 1) (cz w + 1 + 1)) 37 (cz w + 1) (fI w 1 p)) 38 (cz w + 1) v) 1 p = _
      rw [fI_of _ _ _ _ (by decide), fI_of _ _ _ _ (by decide)]
      exact e1
    have ut : tg u (fR w 0 p) = 112 := by rw [hu]; exact t4
    have ul : ln u (fR w 0 p) = 24 := by rw [hu]; exact l4
    have ut2 : tg u (cz w + 1) = 3 := by rw [hu]; exact t2
    show (_ ∧ _ ∧ _) ∧ _
    have goal : ((111 ≤ tg u (fR u 0 p) ∧ tg u (fR u 0 p) ≤ 119) ∧ 0 ≤ (fI u 1 p) ∧ (fI u 1 p) < ln u (fR u 0 p)) ∧
    ((cz w + 1) = 0 ∨ zst (tg u (fR u 0 p)) (tg u (cz w + 1)) = true) ∧
    ∀ u25 : CW, u25 = qR u (fR u 0 p) (fI u 1 p) (cz w + 1) →
    ∀ u28 : CW, u28 = pI u25 1 p (w32 ((fI u25 1 p) + 1)) →
    wpC p (d + 13) 16 [ar p, ai 40] u28 (zqI (fun v30 u29 =>
      (v30 = 0 →
        pC_X0_readKind_320 p (wpC p (d + 13)) Q X x4 u29) ∧
      (¬ (v30 = 0) →
        pC_X0_readKind_243 p (wpC p (d + 13)) Q X x4 (cz w + 1) u29)) zno) := by
      rw [u0, u1, ut, ul, ut2, b1]
      refine ⟨⟨by decide, by omega, by omega⟩, Or.inr (by decide), fa (fa ?_)⟩
      have : pI (qR u (fR w 0 p) (tI τ0 10) (cz w + 1)) 1 p (w32 (fI (qR u (fR w 0 p) (tI τ0 10) (cz w + 1)) 1 p + 1)) = w1 := by
        have e9 : fI (qR u (fR w 0 p) (tI τ0 10) (cz w + 1)) 1 p = fI w 1 p := u1
        rw [e9, hw1, ← b1, hu]
        rfl
      rw [this]
      exact hn
    rw [hu] at goal
    exact goal
  rw [← hw1] at K1 ek ekj F1 P1 W1
  have hpot : pot w1 τ = pot w τ + 20 := by
    have e1 : cz w1 = cz w + 2 := by rw [hw1]; rfl
    have e2 : cu w1 = cu w + 10 := by rw [hw1]; rfl
    unfold pot zm
    rw [e1, e2]; omega
  have hpa : p < fR w 0 p := K.1.2.2.1
  have h1 : RB p w1 τ := h.st (T := [fR w 0 p]) F1 P1 W1 (fun f hf => by rw [List.mem_singleton.mp hf]; omega) (fun r hr => by
    rw [List.mem_singleton.mp hr]
    exact ⟨by omega, Or.inr ⟨by rw [a1]; decide, W.le (by rw [a1]; decide)⟩⟩)
  have hmm : mu w1 = mu w ∧ mz w1 = mz w := ⟨F1.emu, F1.emz⟩
  have hx1 : UpK p w1 τ (nK τ0) x4 := by
    unfold UpK
    rw [e13, if_pos rfl]
    rcases hx with y | ⟨u, y1, y2, y3, _⟩
    · exact Or.inl y
    · exact Or.inr ⟨u, y1, by rw [ekj u y1]; exact y2, y3⟩
  obtain ⟨T', hTs, hT4, hT00⟩ : ∃ T' : List Nat, (∀ r, r ∈ T' → r ∈ T) ∧ (x4 ∈ T' ∨ x4 = 0 ∨ slU p w τ0 (nK τ0) x4) ∧ fR w 0 p ∉ T' := by
    rcases hT with q | q
    · refine ⟨[x4], fun r hr => by rw [List.mem_singleton.mp hr]; exact q, Or.inl (by simp), fun z => ?_⟩
      have z := List.mem_singleton.mp z
      rcases hx with ⟨y, _⟩ | ⟨u, y1, y2, _⟩
      · omega
      · have := (K.2.2.2.2.1 u y1).1
        rw [← y2, ← z] at this
        rw [this] at a1
        exact absurd a1 (by decide)
    · exact ⟨[], fun r hr => (by cases hr), Or.inr q, fun z => by cases z⟩
  have e01 : fR w1 0 p = fR w 0 p := (P1 0 (by decide)).2
  have hzk := W.le (r := fR w 0 p) (by rw [show tg w (fR w 0 p) = 112 from a1]; decide)
  have hT1 : x4 ∈ T' ∨ x4 = 0 ∨ slU p w1 τ (nK τ0) x4 := hT4.imp id (fun q => q.imp id (fun q => q.fr (fun u hu => ekj u hu) (fun j hj => by rw [e13, if_neg (by omega)])))
  have hR1 : Rm 300 w1 τ := by unfold Rm at *; rw [hpot, hmm.1, hmm.2]; omega
  have hc1 : CF p T S S' w τ w1 τ := ⟨F1.mono (fun r hr => by
    rcases List.mem_cons.mp hr with y | y
    · exact Or.inl (List.mem_cons.mpr (Or.inl y))
    · rw [List.mem_singleton.mp y]; exact Or.inl (List.mem_cons.mpr (Or.inr hT0))), P1.mono (fun f hf => hS f (by rw [List.mem_singleton.mp hf]; decide)), W1, FT.refl _ _, Int.le_refl _, rfl⟩
  have hSl : ∀ f, f ∈ [9, 10, 11, 12, 13, 14] → f ∈ S := fun f hf => hS f (by simp at hf ⊢; omega)
  rcases ff_s01 40 τ with z | z
  · -- no parts
    obtain ⟨w2, σ, b, c2, run, g⟩ := rk_320 (d := d + 1) (e := e) (T := T') (S := S) (S' := [2, 3, 4, 5, 6, 7, 8]) h1 K1 en hx1 hT1 hSl (fun f hf => hf) (by unfold Rm at *; omega)
    refine ⟨w2, σ, (), ⟨hc1.trans c2 (fun r hr => Or.inl (hTs r hr)) (fun f hf => hf) (fun f hf => hS' f (by simp at hf ⊢; omega)), fun u hu => (KRs.kd_fr2 W1 K1 c2.1 c2.2.1 (by rw [e01]; exact hT00) h0S u).trans (ekj u hu), KSm.ft c2.2.2.2.1 (by decide)⟩, fun Q hQ => sT_takesNo z _ ⟨fun _ => run Q hQ, fun y => absurd rfl y⟩, ?_⟩
    have cm' : ∀ (Q : CW → Prop) (X : Nat → CW → Prop), pC_X0_readKind_320 p (wpC p (d + 13)) Q X x4 w1 → pC_X0_readKind_197 p (wpC p (d + 13)) Q X v x4 w := by
      intro Q X hh
      refine cm Q X (sR_isSign h1 (by decide) ?_)
      rw [z]
      exact ⟨fun _ => hh, fun y => absurd rfl y⟩
    rcases g with ⟨a, g1, g2, g3, g4⟩ | ⟨hh, pl, x, g1, g2, g3, g4⟩
    · exact Or.inl ⟨(), g1, by omega, g3, fun Q X hQ => cm' _ X (g4 Q X hQ)⟩
    · exact Or.inr ⟨hh, pl, x, by omega, g2, g3, fun Q X hX => cm' _ X (g4 Q X hX)⟩
  · -- parts
    have hs0 : tI τ 3 ≠ 0 := by
      intro y
      have := ff_s0 (i := 40) (τ := τ) (fun x => by omega)
      omega
    have cm' : ∀ (Q : CW → Prop) (X : Nat → CW → Prop), pC_X0_readKind_243 p (wpC p (d + 13)) Q X x4 (cz w + 1) w1 → pC_X0_readKind_197 p (wpC p (d + 13)) Q X v x4 w := by
      intro Q X hh
      refine cm Q X (sR_isSign h1 (by decide) ?_)
      rw [z]
      exact ⟨fun y => absurd y (by decide), fun _ => hh⟩
    obtain ⟨w2, σ, c2, p2, run2, g⟩ := nx (d := d + 1) (e := e + 1) (T := []) (S := [9, 10, 11, 12, 13, 14]) (S' := [2, 3, 4, 5, 6]) h1 hs0 (fun f hf => hf) (fun f hf => hf) (by unfold Rm at *; omega)
    have hK10 : tI σ 10 = tI τ 10 := (c2.2.2.2.1 10 (by decide)).1
    have c12 := hc1.trans c2 (fun r hr => by cases hr) hSl (fun f hf => hS' f (by simp at hf ⊢; omega))
    have toT : ∀ (Q : TW → Prop), (∀ I153 : Int → TW → Prop, (∀ (x3 : Int) (w : TW), bkT (wpT (e + 6)) Q (nK τ0) I153 x3 w → I153 x3 w) → I153 1 σ) → pT_readKind_142 (wpT (e + 6)) Q (nK τ0) τ := fun Q hh => sT_takesYes (d := e + 1) h1.f0 (by omega) run2 _ ⟨fun y => absurd y (by decide), fun _ => hh⟩
    rcases g with ⟨g1, g4⟩ | ⟨hh, pl, x, g2, g3, g4⟩
    · have K2 : KRs p w2 σ (nK τ0) := KRs.fr W1 K1 c2.1 c2.2.1 (fun r hr => by cases hr) (by decide) (by decide) c2.2.2.2.1 (fun f hf => by simp at hf; omega)
      have ekd2 : ∀ u, kd w2 p u = kd w1 p u := fun u => KRs.kd_fr W1 K1 c2.1 c2.2.1 (fun r hr => by cases hr) (by decide) u
      have hx2 : UpK p w2 σ (nK τ0) x4 := hx1.fr (fun u _ => ekd2 u) ((c2.2.2.2.1 13 (by decide)).2 _)
      have hR2 : Rm 200 w2 σ := by
        unfold Rm at *
        rw [c2.1.emu, c2.1.emz]
        omega
      obtain ⟨w3, σ3, b3, c3, run3, g3⟩ := rk_loop (d := d) (e := e) (k := nK τ0) (x4 := x4) (x5 := cz w + 1) (T := (cz w + 1) :: (cz w + 1 + 1) :: T') (S := S) (S' := S') ⟨by simp, by simp⟩ hSl hS' ((tI σ 1 - tI σ 5).toNat + 1) w2 σ (Nat.lt_succ_self _) g1 K2 (by rw [← en]; unfold nK; rw [hK10]) hx2 (hT1.imp (fun q => List.mem_cons.mpr (Or.inr (List.mem_cons.mpr (Or.inr q)))) (fun q => q.imp id (fun q => q.fr (fun u _ => ekd2 u) (fun j _ => (c2.2.2.2.1 13 (by decide)).2 _)))) (by rw [ekd2]; exact ek.symm) hR2
      have e02 : fR w2 0 p = fR w 0 p := ((c2.2.1 0 (by decide)).2).trans e01
      refine ⟨w3, σ3, (), ⟨c12.trans c3.1 (fun r hr => by
        rcases List.mem_cons.mp hr with y | y
        · rw [y]; exact Or.inr (by omega)
        · rcases List.mem_cons.mp y with q | q
          · rw [q]; exact Or.inr (by omega)
          · exact Or.inl (hTs r q)) (fun f hf => hf) (fun f hf => hf), fun u hu => (KRs.kd_fr2 c2.2.2.1 K2 c3.1.1 c3.1.2.1 (by
            rw [e02]
            intro y
            rcases List.mem_cons.mp y with y | y
            · have : fR w 0 p = cz w + 1 := y
              omega
            · rcases List.mem_cons.mp y with q | q
              · have : fR w 0 p = cz w + 1 + 1 := q
                omega
              · exact hT00 q) h0S u).trans ((ekd2 u).trans (ekj u hu)), (KSm.ft c2.2.2.2.1 (by decide)).trans c3.2⟩, fun Q hQ => toT _ (run3 Q hQ), ?_⟩
      rcases g3 with ⟨a, q1, q2, q3, q4⟩ | ⟨hh, pl, x, q1, q2, q3, q4⟩
      · exact Or.inl ⟨(), q1, by omega, q3, fun Q X hQ => cm' _ X (fun I hI => hI _ (g4 _ (q4 Q X hQ I hI)))⟩
      · exact Or.inr ⟨hh, pl, x, by omega, q2, q3, fun Q X hX => cm' _ X (fun I hI => hI _ (g4 _ (q4 Q X hX I hI)))⟩
    · obtain ⟨σ4, ⟨f4, d4⟩, run4⟩ := dkk_153 (e := e) (k := nK τ0) g3 (by rw [hK10]; omega) (by rw [hK10]; omega) (by omega)
      refine ⟨w2, σ4, (), ⟨⟨c12.1, c12.2.1, c12.2.2.1, c12.2.2.2.1.trans (f4.mono (fun f hf => hS' f (by simp at hf ⊢; omega))), by rw [(f4 5 (by decide)).1]; exact c12.2.2.2.2.1, by rw [(f4 1 (by decide)).1]; exact c12.2.2.2.2.2⟩, fun u hu => (KRs.kd_fr2 W1 K1 c2.1 c2.2.1 (fun z => by cases z) (by decide) u).trans (ekj u hu), (KSm.ft c2.2.2.2.1 (by decide)).trans (KSm.ft f4 (by decide))⟩, fun Q hQ => toT _ (fun I hI => run4 _ I hI hQ), Or.inr ⟨hh, pl, x, ?_, g2, d4, fun Q X hX => cm' _ X (fun I hI => hI _ (g4 _ hX))⟩⟩
      have : pot w2 σ4 = pot w2 σ := by unfold pot; rw [(f4 5 (by decide)).1, (f4 1 (by decide)).1]
      omega
end ZRKind3
