/-! signs that must stand -/
section ZMust
variable {p d e : Nat} {w : CW} {τ : TW}
theorem Dd.ne {h a : Int} (D : Dd h a τ) (hf : tI τ 7 = 0 → False) : tI τ 7 ≠ 0 := fun z => hf z
theorem sT_mustYes {c : Int} (h0 : tI τ 7 = 0) (h : ff_isSign c τ ≠ 0) {τ' : TW} (run : ∀ Q, Q (.inl none) τ' → wpT (e + 4) 4 [] τ Q) : ∀ Q, Q (.inl none) τ' → wpT (e + 6) 20 [ai c] τ Q :=
  fun Q hQ => wT_must (Nat.zero_le _) ⟨fun _ => sT_takesYes h0 h run _ ⟨fun z => absurd z (by decide), fun _ => hQ⟩, fun z => absurd h0 z⟩
theorem sT_mustNo {c : Int} (h0 : tI τ 7 = 0) (h : ff_isSign c τ = 0) : ∃ τ', (FT [7, 8] τ τ' ∧ Dd (if tI τ 3 = 7 then 1 else 2) (tI τ 5) τ' ∧ tI τ' 7 ≠ 0) ∧ ∀ Q, Q (.inl none) τ' → wpT (e + 6) 20 [ai c] τ Q := by
  obtain ⟨τ', ⟨h1, h2, h3⟩, run⟩ := sT_stop (d := e + 3) (τ := τ) (k := 2) (by decide)
  exact ⟨τ', ⟨h1, (h2 h0).1, (h2 h0).2⟩, fun Q hQ => wT_must (Nat.zero_le _) ⟨fun _ => sT_takesNo h _ ⟨fun _ => run _ hQ, fun z => absurd rfl z⟩, fun z => absurd h0 z⟩⟩
theorem RB.n7 (h : RB p w τ) : tI τ 3 ≠ 7 := by have := h.2.2.2.2.1.2.1; omega
theorem RB.f0 (h : RB p w τ) : tI τ 7 = 0 := h.2.2.2.2.2.2.1
theorem RB.r45 (h : RB p w τ) : R45 τ := h.2.2.2.2.2.2.2
theorem RB.pl (h : RB p w τ) : fI w 11 p = tI τ 5 := h.2.2.2.2.2.1.2.1
theorem RB.ty (h : RB p w τ) : fI w 10 p = tI τ 3 := h.2.2.2.2.2.1.2.2.1
theorem RB.wd (h : RB p w τ) (hs : tI τ 3 = 1 ∨ tI τ 3 = 2 ∨ tI τ 3 = 4) : fI w 12 p = tI τ 4 := h.2.2.2.2.2.1.2.2.2.1 hs
theorem RB.nm (h : RB p w τ) (hs : tI τ 3 = 3) : fI w 13 p = tI τ 4 ∧ 0 ≤ tI τ 4 ∧ tI τ 4 ≤ 999999999 := ⟨h.2.2.2.2.2.1.2.2.2.2.1 hs, h.2.2.2.2.1.2.2.2.2.2.2.1 hs⟩
theorem RB.rg (h : RB p w τ) : 0 ≤ tI τ 5 ∧ tI τ 5 ≤ tI τ 6 ∧ tI τ 6 ≤ tI τ 1 ∧ tI τ 1 ≤ 1600 := ⟨h.2.2.2.2.1.2.2.1, h.2.2.2.2.1.2.2.2.1, h.2.2.2.2.1.2.2.2.2.1, h.2.2.1.2.1⟩
theorem Rm.room {a : Int} (h : RB p w τ) (hR : Rm a w τ) {n k : Nat} (ha : 5 * k + n ≤ a) : cz w + k ≤ mz w ∧ cu w + n ≤ mu w := by
  have := h.rg
  unfold Rm pot zm at hR
  omega
/-- a fault of the reference at the token at hand: 5 for from, and what follows is dead -/
theorem RB.stop (h : RB p w τ) {k : Int} (hk : 1 ≤ k) : ∃ τ', (FT [7, 8] τ τ' ∧ Dd k (tI τ 5) τ' ∧ tI τ' 7 ≠ 0) ∧ ∀ Q, Q (.inl none) τ' → wpT (e + 2) 12 [ai k] τ Q := by
  obtain ⟨τ', ⟨h1, h2, h3⟩, run⟩ := sT_stop (d := e) (τ := τ) hk
  have := h2 h.f0
  rw [if_neg h.n7] at this
  exact ⟨τ', ⟨h1, this⟩, run⟩
theorem RB.fails (h : RB p w τ) {k pl : Int} (hk : 1 ≤ k) : ∃ τ', (FT [7, 8] τ τ' ∧ Dd k pl τ' ∧ tI τ' 7 ≠ 0) ∧ ∀ Q, Q (.inl none) τ' → wpT (e + 1) 13 [ai k, ai pl] τ Q := by
  refine ⟨sI (sI τ 7 k) 8 pl, ⟨((FT.refl _ τ).ssI (by simp)).ssI (by simp), Or.inl ⟨rfl, rfl, hk⟩, ?_⟩, fun Q hQ => wT_fails (Nat.zero_le _) ⟨fun _ => fa (fa hQ), fun z => absurd h.f0 z⟩⟩
  show k ≠ 0
  omega
theorem RB.must (h : RB p w τ) {c : Int} (hc : ff_isSign c τ = 0) : ∃ τ', (FT [7, 8] τ τ' ∧ Dd 2 (tI τ 5) τ' ∧ tI τ' 7 ≠ 0) ∧ ∀ Q, Q (.inl none) τ' → wpT (e + 6) 20 [ai c] τ Q := by
  obtain ⟨τ', ⟨h1, h2, h3⟩, run⟩ := sT_mustNo (e := e) h.f0 hc
  rw [if_neg h.n7] at h2
  exact ⟨τ', ⟨h1, h2, h3⟩, run⟩
/-- what is read stays, whatever else the reference writes -/
theorem RB.ft {S : List Nat} {τ' : TW} (h : RB p w τ) (F : FT S τ τ') (hS : ∀ f, f ∈ S → 8 < f ∧ f ≠ 41 ∧ f ≠ 45) : RB p w τ' := by
  have g : ∀ f, f ≤ 8 → tI τ' f = tI τ f ∧ ∀ i, tA τ' f i = tA τ f i := fun f hf => F f (fun z => by have := hS f z; omega)
  have hb : bt τ' = bt τ := funext (bt_eq (g 1 (by decide)).1 (g 0 (by decide)).2)
  obtain ⟨W, L, T, R, g1, g2, g3⟩ := h
  refine ⟨W, L, ⟨by rw [(g 1 (by decide)).1]; exact T.1, by rw [(g 1 (by decide)).1]; exact T.2.1, fun k hk => by rw [(g 0 (by decide)).2]; exact T.2.2 k (by rw [← (g 1 (by decide)).1]; exact hk)⟩, ⟨R.1, R.2.1, by rw [(g 1 (by decide)).1]; exact R.2.2.1, fun k hk => by rw [(g 0 (by decide)).2]; exact R.2.2.2 k (by rw [← (g 1 (by decide)).1]; exact hk)⟩, ?_, ?_, by rw [(g 7 (by decide)).1]; exact g3.1, g3.2.ft F (fun z => (hS _ z).2.1 rfl) (fun z => (hS _ z).2.2 rfl)⟩
  · unfold TokT WdT at *
    rw [(g 3 (by decide)).1, (g 4 (by decide)).1, (g 5 (by decide)).1, (g 6 (by decide)).1, (g 1 (by decide)).1, hb]
    exact g1
  · unfold TokC at *
    rw [(g 3 (by decide)).1, (g 4 (by decide)).1, (g 5 (by decide)).1, (g 6 (by decide)).1]
    exact g2
/-- and whatever else the component writes -/
theorem RB.st {T S : List Nat} {w' : CW} (h : RB p w τ) (hF : Fr (p :: T) w w') (hP : PF S p w w') (hW : WF p w') (hS : ∀ f, f ∈ S → f < 7 ∨ 14 < f) (hT : ∀ r, r ∈ T → p ≤ r ∧ (cz w < r ∨ (tg w r ≠ 101 ∧ r ≤ cz w))) : RB p w' τ := by
  obtain ⟨W, L, T0, R, g1, g2, g3⟩ := h
  have q : ∀ f, 7 ≤ f → f ≤ 14 → fI w' f p = fI w f p ∧ fR w' f p = fR w f p := fun f h1 h2 => hP f (fun z => by have := hS f z; omega)
  have hz := W.le (r := fR w 7 p) (by rw [R.1]; decide)
  have hne : fR w 7 p ∉ p :: T := by
    intro z
    rcases List.mem_cons.mp z with y | y
    · have := R.1; rw [y, W.2.1] at this; cases this
    · rcases (hT _ y).2 with x | x
      · omega
      · exact x.1 R.1
  have o := hF.2.2.2.2 _ hz hne
  refine ⟨hW, L.fr hF (fun r hr => by rcases List.mem_cons.mp hr with y | y; omega; exact (hT r y).1) W.pz, T0, ⟨by rw [(q 7 (by decide) (by decide)).2, ob.etg o]; exact R.1, by rw [(q 7 (by decide) (by decide)).2, ob.eln o]; exact R.2.1, by rw [(q 8 (by decide) (by decide)).1]; exact R.2.2.1, fun k hk => by rw [(q 7 (by decide) (by decide)).2, ob.eaI o]; exact R.2.2.2 k hk⟩, g1, ?_, g3⟩
  unfold TokC at *
  rw [(q 9 (by decide) (by decide)).1, (q 10 (by decide) (by decide)).1, (q 11 (by decide) (by decide)).1, (q 12 (by decide) (by decide)).1, (q 13 (by decide) (by decide)).1, (q 14 (by decide) (by decide)).1]
  exact g2
/-- dead to the end: a fault's state goes into an outcome -/
theorem OUT.thr' {α β : Type} {T S S' : List Nat} {an at' : Int} {N : α → β → CW → TW → Prop} {cm : (α → CW → Prop) → (Nat → CW → Prop) → Prop} {tm : (β → TW → Prop) → Prop} {how : Int} {b : β} {τ' : TW} (h : RB p w τ) (ha : 13 ≤ at') (hc : ∀ Q X, X (cz w + 1) (wrW w how (tI τ 5)) → cm Q X) (hF : FT [7, 8] τ τ') (h7 : 7 ∈ S' ∧ 8 ∈ S') (hD : Dd how (tI τ 5) τ') (ht : ∀ Q, Q b τ' → tm Q) : OUT p T S S' an at' N cm tm w τ :=
  OUT.thr h ha hc (hF.mono (fun f hf => by
    rcases List.mem_cons.mp hf with y | y
    · rw [y]; exact h7.1
    · rw [List.mem_singleton.mp y]; exact h7.2)) (hF 5 (by decide)).1 (hF 1 (by decide)).1 hD ht
/-- skip and must -/
theorem OUT.skip {S S' T : List Nat} {c : Int} (h : RB p w τ) (hc : c ≠ 46 ∧ c ≠ 256) (hS : ∀ f, f ∈ [9, 10, 11, 12, 13, 14] → f ∈ S) (hS' : ∀ f, f ∈ [2, 3, 4, 5, 6, 7, 8] → f ∈ S') (hR : Rm 100 w τ) : OUT p T S S' (-5900) 13 (fun (_ : Unit) (_ : Unit) _ _ => True) (fun Q X => wpC p (d + 13) 18 [ar p, ai c] w (zqV (Q ()) X)) (fun Q => wpT (e + 6) 20 [ai c] τ (zqV (Q ()) zno)) w τ := by
  rcases ff_s01 c τ with z | z
  · obtain ⟨τ', ⟨h1, h2, h3⟩, run⟩ := h.must (e := e) z
    refine OUT.thr' (b := ()) h (by decide) (fun Q X hX => wC_X0_skip (Nat.zero_le _) (sR_isSign h hc ?_)) h1 ⟨hS' 7 (by decide), hS' 8 (by decide)⟩ h2 (fun Q hQ => run _ hQ)
    rw [z]
    refine sC_wantNo rfl (Rm.room h hR (k := 1) (n := 8) (by decide)) ?_
    rw [h.pl]
    exact hX
  · have h0 : tI τ 3 ≠ 0 := by
      intro y
      have := ff_s0 (i := c) (τ := τ) (fun x => by omega)
      omega
    obtain ⟨w', τ', c1, hp, run, g⟩ := nx (d := d) (e := e) (T := T) (S := S) (S' := S') h h0 hS (fun f hf => hS' f (by
      simp at hf ⊢; omega)) hR
    refine ⟨w', τ', (), c1, fun Q hQ => sT_mustYes h.f0 (by omega) run _ hQ, ?_⟩
    rcases g with ⟨g1, g4⟩ | ⟨hh, pl, x, g2, g3, g4⟩
    · refine Or.inl ⟨(), g1, hp, trivial, fun Q X hQ => wC_X0_skip (Nat.zero_le _) (sR_isSign h hc ?_)⟩
      rw [z]
      exact sC_want (by decide) (g4 _ hQ)
    · refine Or.inr ⟨hh, pl, x, by omega, g2, g3, fun Q X hX => wC_X0_skip (Nat.zero_le _) (sR_isSign h hc ?_)⟩
      rw [z]
      exact sC_want (by decide) (g4 _ hX)
end ZMust
