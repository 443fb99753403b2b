/-! a line of a kind, both -/
section ZRKind
variable {p d e : Nat} {w : CW} {τ : TW}
/-- dead behind a kind's parts -/
theorem dk_235 {h pl : Int} (D : Dd h pl τ) : ∃ τ', (FT [7, 8] τ τ' ∧ Dd h pl τ') ∧ ∀ Q : TW → Prop, Q τ' → pT_readKind_235 (wpT (e + 4)) Q τ := by
  obtain ⟨τ', ⟨h1, h2, h3⟩, run⟩ := dd_must (d := e) (c := 59) D
  exact ⟨τ', ⟨h1, h2⟩, fun Q hQ => run _ hQ⟩
theorem dk_229 {h pl : Int} (D : Dd h pl τ) : ∃ τ', (FT [7, 8] τ τ' ∧ Dd h pl τ') ∧ ∀ Q : TW → Prop, Q τ' → pT_readKind_229 (wpT (e + 4)) Q τ := by
  obtain ⟨τ1, ⟨h1, h2, h3⟩, run⟩ := dd_must (d := e) (c := 41) D
  obtain ⟨τ2, ⟨k1, k2⟩, run2⟩ := dk_235 (e := e) h2
  exact ⟨τ2, ⟨h1.trans k1, k2⟩, fun Q hQ => run _ (run2 Q hQ)⟩
/-- the reference's loop of parts -/
def bkT (call : Nat → List ZA → TW → (ZRes → TW → Prop) → Prop) (Q : TW → Prop) (x2 : Int) (I153 : Int → TW → Prop) (x3 : Int) (w : TW) : Prop :=
    (¬ (x3 = 0) ∧ ((tI w 7) = 0) →
      (0 ≤ x2 ∧ x2 < 24) ∧
      ∀ v26 : Int, v26 = (if (tA w 14 x2) = 4 then 1 else 0) →
      call 19 [ai v26] w (zqI (fun v28 u27 =>
        ((tI u27 7) = 0 →
          (0 ≤ x2 ∧ x2 < 24) ∧
          (0 ≤ (w32 ((w32 (4 * x2)) + (tA u27 14 x2))) ∧ (w32 ((w32 (4 * x2)) + (tA u27 14 x2))) < 96) ∧
          ∀ u33 : TW, u33 = sA u27 15 (w32 ((w32 (4 * x2)) + (tA u27 14 x2))) v28 →
          (0 ≤ x2 ∧ x2 < 24) ∧
          (0 ≤ x2 ∧ x2 < 24) ∧
          ∀ u36 : TW, u36 = sA u33 14 x2 (w32 ((tA u33 14 x2) + 1)) →
          pT_readKind_219 call Q I153 x2 u36) ∧
        (¬ ((tI u27 7) = 0) →
          pT_readKind_219 call Q I153 x2 u27)) zno)) ∧
    (¬ (¬ (x3 = 0) ∧ ((tI w 7) = 0)) →
      pT_readKind_229 call Q w)
theorem pT_153 {call : Nat → List ZA → TW → (ZRes → TW → Prop) → Prop} {Q : TW → Prop} {x2 x3 : Int} {w : TW} : pT_readKind_153 call Q x2 x3 w = ∀ I153 : Int → TW → Prop, (∀ (x3 : Int) (w : TW), bkT call Q x2 I153 x3 w → I153 x3 w) → I153 x3 w := rfl
theorem dk_219 {h pl k : Int} (D : Dd h pl τ) : ∃ τ', (FT [7, 8] τ τ' ∧ Dd h pl τ') ∧ ∀ (Q : TW → Prop) (I : Int → TW → Prop), (∀ (x3 : Int) (w : TW), bkT (wpT (e + 4)) Q k I x3 w → I x3 w) → Q τ' → pT_readKind_219 (wpT (e + 4)) Q I k τ := by
  obtain ⟨τ', h1, run⟩ := dk_229 (e := e) D
  exact ⟨τ', h1, fun Q I hI hQ => dd_takes D _ (hI _ _ ⟨fun z => absurd rfl z.1, fun _ => run Q hQ⟩)⟩
/-- the component's loop of parts, behind its next -/
def bkC (p : Nat) (call : Nat → List ZA → CW → (ZRes → CW → Prop) → Prop) (Q : CW → Prop) (X : Nat → CW → Prop) (x4 : Nat) (x5 : Nat) (I243 : CW → Prop) (u41 : CW) : Prop :=
      call 17 [ar p] u41 (zqI (fun v44 u43 =>
        (hF 42 (tg u43 x5) = true) ∧
        ∀ v46 : Int, v46 = (if ¬ (4 ≤ (fI u43 42 x5)) then 1 else 0) →
        call 10 [ar p, ai v46, ai 9, ai (fI u43 11 p)] u43 (zqV (fun u47 =>
          (hF 41 (tg u47 x5) = true) ∧
          (hF 42 (tg u47 x5) = true) ∧
          (tg u47 (fR u47 41 x5) = 102 ∧ 0 ≤ (fI u47 42 x5) ∧ (fI u47 42 x5) < ln u47 (fR u47 41 x5)) ∧
          ∀ u51 : CW, u51 = qI u47 (fR u47 41 x5) (fI u47 42 x5) v44 →
          (hF 42 (tg u51 x5) = true) ∧
          (hP 42 (tg u51 x5) = true) ∧
          ∀ u54 : CW, u54 = pI u51 42 x5 (w32 ((fI u51 42 x5) + 1)) →
          call 4 [ar p] u54 (zqV (fun u56 =>
            call 16 [ar p, ai 44] u56 (zqI (fun v59 u58 =>
              (v59 = 0 →
                pC_X0_readKind_314 p call Q X x4 u58) ∧
              (¬ (v59 = 0) →
                I243 u58)) zno)) (fun x65 u66 =>
            X x65 u66))) (fun x67 u68 =>
          X x67 u68))) (fun x71 u72 =>
        X x71 u72))
theorem pC_243 {call : Nat → List ZA → CW → (ZRes → CW → Prop) → Prop} {Q : CW → Prop} {X : Nat → CW → Prop} {x4 x5 : Nat} {w : CW} : pC_X0_readKind_243 p call Q X x4 x5 w = ∀ I243 : CW → Prop, (∀ (w : CW), call 4 [ar p] w (zqV (fun u41 => bkC p call Q X x4 x5 I243 u41) (fun x73 u74 => X x73 u74)) → I243 w) → I243 w := rfl
/-- the upper kind's reference -/
def UpK (p : Nat) (w : CW) (τ : TW) (k x4 : Nat) : Prop := (x4 = 0 ∧ tA τ 13 k = -4) ∨ ∃ u : Nat, u < k ∧ x4 = kd w p u ∧ tA τ 13 k = u
/-- .. is sealed by now -/
def slU (p : Nat) (w : CW) (τ : TW) (k x4 : Nat) : Prop := ∃ u : Nat, u < k ∧ x4 = kd w p u ∧ slN τ u k = 1
theorem slU.fr {k x4 : Nat} {w' : CW} {τ' : TW} (h : slU p w τ k x4) (hk : ∀ u, u < k → kd w' p u = kd w p u) (hu : ∀ j : Nat, j < k → tA τ' 13 j = tA τ 13 j) : slU p w' τ' k x4 := by
  obtain ⟨u, u1, u2, u3⟩ := h
  exact ⟨u, u1, by rw [hk u u1]; exact u2, by rw [slN_eq (u : Int) k hu]; exact u3⟩
theorem rk_320 {k x4 : Nat} {S S' T : List Nat} (h : RB p w τ) (K : KRs p w τ k) (hk : nK τ = k + 1) (hx : UpK p w τ k x4) (hT : x4 ∈ T ∨ x4 = 0 ∨ slU p w τ k x4) (hS : ∀ f, f ∈ [9, 10, 11, 12, 13, 14] → f ∈ S) (hS' : ∀ f, f ∈ [2, 3, 4, 5, 6, 7, 8] → f ∈ S') (hR : Rm 100 w τ) :
    OUT p T S S' (-5900) 13 (fun (_ : Unit) (_ : Unit) w' τ' => KR p w' τ' ∧ nK τ' = k + 1) (fun Q X => pC_X0_readKind_320 p (wpC p (d + 12)) (fun u => wpC p (d + 13) 4 [ar p] u (zqV (Q ()) X)) X x4 w) (fun Q => pT_readKind_235 (wpT (e + 6)) (Q ()) τ) w τ := by
  rcases ff_s01 59 τ with z | z
  · obtain ⟨τ', ⟨h1, h2, h3⟩, run⟩ := h.must (e := e) z
    refine OUT.thr' (b := ()) h (by decide) (fun Q X hX => sR_isSign h (by decide) ?_) h1 ⟨hS' 7 (by decide), hS' 8 (by decide)⟩ h2 (fun Q hQ => run _ hQ)
    rw [z]
    refine sC_wantNo rfl (Rm.room h hR (k := 1) (n := 8) (by decide)) ?_
    rw [h.pl]
    exact hX
  · have h0 : tI τ 3 ≠ 0 := by
      intro y
      have := ff_s0 (i := 59) (τ := τ) (fun x => by omega)
      omega
    -- the state with the upper kind sealed
    have Ks := KRs.seal K hk hx
    have hux : x4 ≠ 0 → tg w x4 = 3 ∧ p + 8 < x4 := by
      intro hne
      rcases hx with ⟨y, _⟩ | ⟨u, y1, y2, _⟩
      · exact absurd y hne
      · have hl := K.2.2.2.2.1 u (by omega)
        rw [y2]; exact ⟨hl.1, hl.2.1⟩
    generalize hw1 : (if x4 = 0 then w else pI w 40 x4 1) = w1 at Ks
    have hF1 : Fr (p :: T) w w1 := by
      rw [← hw1]
      by_cases y : x4 = 0
      · rw [if_pos y]; exact Fr.refl _ _
      · rw [if_neg y]
        rcases hT with q | q | ⟨u, q1, q2, q3⟩
        · exact (Fr.refl _ _).spI (Or.inl (List.mem_cons.mpr (Or.inr q)))
        · exact absurd q y
        · have s := K.2.2.2.2.2.2.1 u (by omega)
          rw [pI_id (by rw [q2]; exact s.trans q3)]
          exact Fr.refl _ _
    have hF1' : Fr (p :: [x4]) w w1 := by
      rw [← hw1]
      by_cases y : x4 = 0
      · rw [if_pos y]; exact Fr.refl _ _
      · rw [if_neg y]; exact (Fr.refl _ _).spI (Or.inl (by simp))
    have hP1 : ∀ S, PF S p w w1 := by
      intro S
      rw [← hw1]
      by_cases y : x4 = 0
      · rw [if_pos y]; exact PF.refl _ _ _
      · rw [if_neg y]; exact (PF.refl _ _ _).spI (Or.inr (by have := (hux y).2; omega))
    have hW1 : WF p w1 := by
      rw [← hw1]
      by_cases y : x4 = 0
      · rw [if_pos y]; exact h.1
      · rw [if_neg y]; exact h.1
    have hz1 : pot w1 τ = pot w τ := by
      rw [← hw1]
      by_cases y : x4 = 0
      · rw [if_pos y]
      · rw [if_neg y]; rfl
    have hm1 : mu w1 = mu w ∧ mz w1 = mz w := ⟨hF1.emu, hF1.emz⟩
    have h' : RB p w1 τ := by
      rw [← hw1]
      by_cases y : x4 = 0
      · rw [if_pos y]; exact h
      · rw [if_neg y] at hw1 ⊢
        rw [hw1]
        refine h.st hF1' (hP1 []) hW1 (fun f hf => by cases hf) (fun r hr => ?_)
        rw [List.mem_singleton.mp hr]
        have := hux y
        exact ⟨by omega, Or.inr ⟨by omega, h.1.le (by omega)⟩⟩
    have hR' : Rm 100 w1 τ := by unfold Rm at *; rw [hz1, hm1.1, hm1.2]; exact hR
    obtain ⟨w', τ', c1, hp, run, g⟩ := nx (d := d + 1) (e := e) (T := []) (S := [9, 10, 11, 12, 13, 14]) (S' := [2, 3, 4, 5, 6]) h' h0 (fun f hf => hf) (fun f hf => hf) hR'
    have cm : ∀ (Q : Unit → CW → Prop) (X : Nat → CW → Prop), wpC p (d + 13) 4 [ar p] w1 (zqV (Q ()) X) → pC_X0_readKind_320 p (wpC p (d + 12)) (fun u => wpC p (d + 13) 4 [ar p] u (zqV (Q ()) X)) X x4 w := by
      intro Q X hn
      refine sR_isSign h (by decide) ?_
      rw [z]
      refine sC_want (by decide) ⟨fun y => ?_, fun y => ⟨by rw [(hux y).1]; decide, fa ?_⟩⟩
      · rw [if_pos y] at hw1; rw [hw1]; exact hn
      · rw [if_neg y] at hw1; rw [hw1]; exact hn
    have c0 : CF p T S S' w τ w1 τ := ⟨hF1, hP1 S, hW1, FT.refl _ _, Int.le_refl _, rfl⟩
    refine ⟨w', τ', (), c0.trans c1 (fun r hr => by cases hr) hS (fun f hf => hS' f (by simp at hf ⊢; omega)), fun Q hQ => sT_mustYes h.f0 (by omega) run _ hQ, ?_⟩
    rcases g with ⟨g1, g4⟩ | ⟨hh, pl, x, g2, g3, g4⟩
    · exact Or.inl ⟨(), g1, by omega, ⟨KR.fr hW1 Ks c1.1 c1.2.1 (fun r hr => by cases hr) (by decide) (by decide) c1.2.2.2.1 (fun f hf => by simp at hf; omega), by rw [← hk]; unfold nK; rw [(c1.2.2.2.1 10 (by decide)).1]⟩, fun Q X hQ => cm Q X (g4 _ hQ)⟩
    · exact Or.inr ⟨hh, pl, x, by omega, g2, g3, fun Q X hX => cm Q X (g4 _ hX)⟩
end ZRKind
