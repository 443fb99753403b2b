/-! tokens of both, side by side -/
section ZTok
variable {p d : Nat} {w : CW} {τ : TW}
/-- a token whose letters are a word -/
def WdT (τ : TW) : Prop := ∃ k n : Nat, tI τ 5 = k ∧ tI τ 6 = ((k + n : Nat) : Int) ∧ 1 ≤ n ∧ n ≤ 8 ∧ (∀ j, k ≤ j → j < k + n → 1 ≤ bt τ j ∧ bt τ j ≤ 123) ∧ tI τ 4 = wdOf (pkL (sl (bt τ) k n))
/-- the token at hand -/
def TokT (τ : TW) : Prop := 0 ≤ tI τ 3 ∧ tI τ 3 ≤ 6 ∧ 0 ≤ tI τ 5 ∧ tI τ 5 ≤ tI τ 6 ∧ tI τ 6 ≤ tI τ 1 ∧ (tI τ 3 ≠ 0 → tI τ 5 < tI τ 6) ∧ (tI τ 3 = 3 → 0 ≤ tI τ 4 ∧ tI τ 4 ≤ 999999999) ∧ (tI τ 3 = 5 → tI τ 4 = 256 ∨ isSg (tI τ 4)) ∧ (tI τ 3 = 6 → WdT τ ∧ 0 ≤ tI τ 4 ∧ tI τ 4 ≤ 10)
def TokC (p : Nat) (w : CW) (τ : TW) : Prop := fI w 9 p = tI τ 6 ∧ fI w 11 p = tI τ 5 ∧ fI w 10 p = tI τ 3 ∧ (tI τ 3 = 1 ∨ tI τ 3 = 2 ∨ tI τ 3 = 4 → fI w 12 p = tI τ 4) ∧ (tI τ 3 = 3 → fI w 13 p = tI τ 4) ∧ (tI τ 3 = 5 → (tI τ 4 = 256 ∧ fI w 14 p = 46) ∨ (isSg (tI τ 4) ∧ fI w 14 p = tI τ 4))
/-- rules' numbers -/
def R45 (τ : TW) : Prop := ∀ f : Nat, (f : Int) < tI τ 41 → 0 ≤ tA τ 45 f ∧ tA τ 45 f ≤ 16
theorem R45.ft {S : List Nat} {τ' : TW} (h : R45 τ) (F : FT S τ τ') (h1 : 41 ∉ S) (h5 : 45 ∉ S) : R45 τ' := fun f hf => by
  rw [(F 45 h5).2]
  rw [(F 41 h1).1] at hf
  exact h f hf
/-- both read on, no fault by now -/
def RB (p : Nat) (w : CW) (τ : TW) : Prop := WF p w ∧ Lit p w ∧ tpT τ ∧ tpC p w τ ∧ TokT τ ∧ TokC p w τ ∧ tI τ 7 = 0 ∧ R45 τ
/-- the reference has met a fault, or a wrong token -/
def Dd (how pl : Int) (τ : TW) : Prop := (tI τ 7 = how ∧ tI τ 8 = pl ∧ 1 ≤ how) ∨ (tI τ 7 = 0 ∧ tI τ 3 = 7 ∧ how = 1 ∧ tI τ 5 = pl ∧ R45 τ)
theorem Lx_tok {a : Nat} {f t s v : Int} (T : tpT τ) (hal : (a : Int) ≤ tI τ 1) (h : Lx (bt τ) a f t s v) (h7 : s ≠ 7) : 0 ≤ s ∧ s ≤ 6 ∧ (a : Int) ≤ f ∧ f ≤ t ∧ t ≤ tI τ 1 ∧ (s ≠ 0 → f < t) ∧ (s = 3 → 0 ≤ v ∧ v ≤ 999999999) ∧ (s = 5 → v = 256 ∨ isSg v) ∧ (s = 6 → ∃ k n : Nat, f = k ∧ t = ((k + n : Nat) : Int) ∧ 1 ≤ n ∧ n ≤ 8 ∧ (∀ j, k ≤ j → j < k + n → 1 ≤ bt τ j ∧ bt τ j ≤ 123) ∧ v = wdOf (pkL (sl (bt τ) k n)) ∧ 0 ≤ v ∧ v ≤ 10) := by
  obtain ⟨k, hk, hf, h⟩ := h
  have hkn := Run.le T hk (fun c h => by unfold isBl at h; omega) hal
  have hka := hk.1
  by_cases c1 : bt τ k = -1
  · rw [if_pos c1] at h
    exact ⟨by omega, by omega, by omega, by omega, by omega, fun z => by omega, fun z => by omega, fun z => by omega, fun z => by omega⟩
  rw [if_neg c1] at h
  have hk1 := bt_nn T c1
  by_cases c2 : isSm (bt τ k) ∨ isUp (bt τ k)
  · rw [if_pos c2] at h
    obtain ⟨e, he, h⟩ := h
    have hen := Run.le T he (fun c h => by unfold isNc isSm isFg at h; omega) (by omega)
    have hke := he.1
    by_cases h8 : 8 < e - k
    · rw [if_pos h8] at h; exact absurd h h7
    · rw [if_neg h8] at h
      obtain ⟨ht, h⟩ := h
      have hs : (s = 1 ∨ s = 2 ∨ s = 6) ∧ (s = 6 → v = wdOf (pk (bt τ) k (e - k)) ∧ 0 ≤ v) := by
        split at h
        · split at h
          · exact ⟨by omega, fun z => by omega⟩
          · exact ⟨by omega, fun _ => ⟨h.2, by omega⟩⟩
        · exact ⟨by omega, fun z => by omega⟩
      refine ⟨by omega, by omega, by omega, by omega, by omega, fun _ => by omega, fun z => by omega, fun z => by omega, fun z => ?_⟩
      have hb : ∀ j, k ≤ j → j < k + (e - k) → 1 ≤ bt τ j ∧ bt τ j ≤ 123 := by
        intro j h1 h2
        rcases Nat.lt_or_ge k j with q | q
        · have := he.2.1 j (by omega) (by omega); unfold isNc isSm isFg at this; omega
        · have : j = k := by omega
          rw [this]; unfold isSm isUp at c2; omega
      have hv := hs.2 z
      have hpk := (pkv_eq (bt τ) k (e - k) (by omega) (fun i hi => by have := hb (k + i) (by omega) (by omega); omega)).1
      refine ⟨k, e - k, hf, by omega, by omega, by omega, hb, by rw [hv.1, hpk], hv.2, ?_⟩
      rcases wdOf_rg (pk (bt τ) k (e - k)) with y | ⟨i, hi, y⟩ <;> omega
  rw [if_neg c2] at h
  by_cases c3 : isFg (bt τ k)
  · rw [if_pos c3] at h
    obtain ⟨e, he, h⟩ := h
    have hen := Run.le T he (fun c h => by unfold isFg at h; omega) (by omega)
    have hke : k < e := by
      rcases Nat.lt_or_ge k e with z | z
      · exact z
      · have : e = k := by have := he.1; omega
        rw [this] at he; exact absurd c3 he.2.2
    by_cases h9 : 9 < e - k
    · rw [if_pos h9] at h; exact absurd h h7
    · rw [if_neg h9] at h
      obtain ⟨h1, h2, h3⟩ := h
      have hr := nv_rg (b := bt τ) (k := k) (e - k) (by omega) (fun q q1 q2 => he.2.1 q q1 (by omega))
      have hp : (10 : Int) ^ (e - k) ≤ 1000000000 := p10_9 _ (by omega)
      exact ⟨by omega, by omega, by omega, by omega, by omega, fun _ => by omega, fun _ => by omega, fun z => by omega, fun z => by omega⟩
  rw [if_neg c3] at h
  by_cases c4 : bt τ k = 39
  · rw [if_pos c4] at h
    obtain ⟨e, he, h⟩ := h
    have hke := he.1
    by_cases hq : bt τ e = 39 ∧ e ≤ k + 9
    · rw [if_pos hq] at h
      have := bt_nn T (k := e) (by omega)
      exact ⟨by omega, by omega, by omega, by omega, by omega, fun _ => by omega, fun z => by omega, fun z => by omega, fun z => by omega⟩
    · rw [if_neg hq] at h; exact absurd h h7
  rw [if_neg c4] at h
  by_cases c5 : bt τ k = 46 ∧ bt τ (k + 1) = 46
  · rw [if_pos c5] at h
    have := bt_nn T (k := k + 1) (by omega)
    exact ⟨by omega, by omega, by omega, by omega, by omega, fun _ => by omega, fun z => by omega, fun z => Or.inl h.2.2, fun z => by omega⟩
  rw [if_neg c5] at h
  by_cases c6 : isSg (bt τ k)
  · rw [if_pos c6] at h
    exact ⟨by omega, by omega, by omega, by omega, by omega, fun _ => by omega, fun z => by omega, fun z => Or.inr (by rw [h.2.2]; exact c6), fun z => by omega⟩
  · rw [if_neg c6] at h; exact absurd h h7
/-- next, both: a token more, or the component throws and the reference has a wrong token -/
theorem pr_nextL {e : Nat} (W : WF p w) (L : Lit p w) (T : tpT τ) (R : tpC p w τ) (ha : fI w 9 p = tI τ 6) (h0 : 0 ≤ tI τ 6) (h1 : tI τ 6 ≤ tI τ 1) (hm : cz w + 5 ≤ mz w ∧ cu w + 70 ≤ mu w) (hfa : tI τ 7 = 0) (h45 : R45 τ) :
    ∃ w' τ', (St p [] [9, 10, 11, 12, 13, 14] 5 70 w w' ∧ FT [2, 3, 4, 5, 6] τ τ' ∧ tI τ 6 ≤ tI τ' 5 ∧ Lx (bt τ) (tI τ 6).toNat (tI τ' 5) (tI τ' 6) (tI τ' 3) (tI τ' 4)) ∧ (∀ Q, Q (.inl none) τ' → wpT (e + 4) 4 [] τ Q) ∧ ((RB p w' τ' ∧ ∀ Q, Q (.inl none) w' → wpC p (d + 12) 4 [ar p] w Q) ∨ ((tI τ' 3 = 7 ∧ tI τ' 7 = 0 ∧ R45 τ') ∧ ∃ x, Wr w' x 1 (tI τ' 5) ∧ ∀ Q, Q (.inr x) w' → wpC p (d + 12) 4 [ar p] w Q)) := by
  obtain ⟨τ', F, hL, runT⟩ := sT_next (d := e) T h0 h1
  obtain ⟨w', hS, h⟩ := sC_next (d := d) (a := (tI τ 6).toNat) T L W R (by rw [ha]; omega) (by omega) hL hm
  have e1 := (F 1 (by decide)).1
  have e0 := (F 0 (by decide)).2
  have e7 : tI τ' 7 = 0 := (F 7 (by decide)).1.trans hfa
  have hbt : bt τ' = bt τ := funext (bt_eq e1 e0)
  have T' : tpT τ' := ⟨by rw [e1]; exact T.1, by rw [e1]; exact T.2.1, fun k hk => by rw [e0]; exact T.2.2 k (by rw [← e1]; exact hk)⟩
  have hfr : tI τ 6 ≤ tI τ' 5 := by
    obtain ⟨k, hk, hf, _⟩ := hL
    have := hk.1
    rw [hf]; omega
  refine ⟨w', τ', ⟨hS, F, hfr, hL⟩, runT, ?_⟩
  rcases h with ⟨h7, x, hx, run⟩ | ⟨h7, ⟨q1, q2, q3, q4, q5, q6⟩, run⟩
  · exact Or.inr ⟨⟨h7, e7, h45.ft F (by decide) (by decide)⟩, x, hx, run⟩
  · obtain ⟨g1, g2, g3, g4, g5, g6, g7, g8, g9⟩ := Lx_tok T (by omega) hL h7
    have R0 : tpC p w' τ := R.st W hS (by decide) (by decide) (by simp)
    refine Or.inl ⟨⟨hS.2.2.1, L.fr hS.1 (fun r hr => by simp at hr; omega) W.pz, T', ⟨R0.1, R0.2.1, by rw [e1]; exact R0.2.2.1, fun k hk => by rw [e0]; exact R0.2.2.2 k (by rw [← e1]; exact hk)⟩, ⟨g1, g2, by omega, g4, by rw [e1]; exact g5, g6, g7, g8, fun z => ?_⟩, ⟨q1, q2, q3, q4, q5, q6⟩, e7, h45.ft F (by decide) (by decide)⟩, run⟩
    obtain ⟨k, n, y1, y2, y3, y4, y5, y6, y7, y8⟩ := g9 z
    exact ⟨⟨k, n, y1, y2, y3, y4, fun j a b => by rw [hbt]; exact y5 j a b, by rw [hbt]; exact y6⟩, y7, y8⟩
end ZTok
