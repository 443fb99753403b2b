/-! kinds while they are read -/
section ZKindW
variable {p d : Nat} {w : CW} {τ : TW}
theorem slN_01 (k : Int) : ∀ n, slN τ k n = 0 ∨ slN τ k n = 1 := by
  intro n
  cases n with
  | zero => exact Or.inl rfl
  | succ n => unfold slN; split
              · exact Or.inr rfl
              · exact Or.inl rfl
theorem KRs.inj {m : Nat} (K : KRs p w τ m) {i j : Nat} (hi : i < nK τ) (hj : j < nK τ) (h : kd w p i = kd w p j) : i = j := by
  have h1 := (K.2.2.2.2.1 i hi).2.2.1
  have h2 := (K.2.2.2.2.1 j hj).2.2.1
  rw [h] at h1; omega
/-- the upper kind is sealed -/
theorem KRs.seal {k x4 : Nat} (K : KRs p w τ k) (hk : nK τ = k + 1) (hx : (x4 = 0 ∧ tA τ 13 k = -4) ∨ ∃ u : Nat, u < k ∧ x4 = kd w p u ∧ tA τ 13 k = u) : KR p (if x4 = 0 then w else pI w 40 x4 1) τ := by
  obtain ⟨a, b1, b2, b3, b4, b5, b6, b7⟩ := K
  have hs : ∀ j : Nat, slN τ j (k + 1) = if tA τ 13 k = j then 1 else slN τ j k := by
    intro j
    show (if ¬ (slN τ j k = 0) ∨ tA τ 13 k = j then (1 : Int) else 0) = _
    by_cases z : tA τ 13 k = j
    · rw [if_pos (Or.inr z), if_pos z]
    · rw [if_neg z]
      rcases slN_01 (τ := τ) j k with y | y
      · rw [y, if_neg (by omega)]
      · rw [y, if_pos (by omega)]
  rcases hx with ⟨x0, hu⟩ | ⟨u, hu1, hu2, hu3⟩
  · rw [if_pos x0]
    refine ⟨a, b1, b2, b3, b4, b5, fun j hj => ?_, b7⟩
    rw [hk, hs, if_neg (by omega)]
    exact b6 j hj
  · have hne : x4 ≠ 0 := by
      have := (b4 u (by omega)).2.1
      omega
    rw [if_neg hne]
    refine ⟨a, b1, b2, b3, b4, b5, fun j hj => ?_, b7⟩
    rw [hk, hs]
    show fI (pI w 40 x4 1) 40 (kd w p j) = _
    rw [fI_pI]
    by_cases z : j = u
    · rw [if_pos ⟨rfl, by rw [z, hu2]⟩, if_pos (by rw [hu3, z])]
    · rw [if_neg (fun y => z ?_), if_neg (by omega)]
      · exact b6 j hj
      · have h1 := (b4 u (by omega)).2.2.1
        have h2 := (b4 j hj).2.2.1
        rw [y.2, hu2] at h2; omega
/-- a part more -/
theorem KRs.part {k j : Nat} {s : Int} (K : KRs p w τ k) (hk : nK τ = k + 1) (hm : tA τ 14 k = j) (hj : j < 4) (h0 : 0 ≤ s) (h1 : s < 3 + nK τ) : KRs p (pI (qI w (fR w 41 (kd w p k)) j s) 42 (kd w p k) (j + 1 : Nat)) (sA (sA τ 15 (4 * k + j : Nat) s) 14 k (j + 1 : Nat)) k := by
  have K0 := K
  obtain ⟨a, b1, b2, b3, b4, b5, b6, b7⟩ := K
  have ekd : ∀ i, kd (pI (qI w (fR w 41 (kd w p k)) j s) 42 (kd w p k) (j + 1 : Nat)) p i = kd w p i := fun i => rfl
  have en : nK (sA (sA τ 15 (4 * k + j : Nat) s) 14 k (j + 1 : Nat)) = nK τ := rfl
  have e13 : ∀ i, tA (sA (sA τ 15 (4 * k + j : Nat) s) 14 k (j + 1 : Nat)) 13 i = tA τ 13 i := fun i => rfl
  have e14 : ∀ i : Nat, tA (sA (sA τ 15 (4 * k + j : Nat) s) 14 k (j + 1 : Nat)) 14 i = if i = k then ((j + 1 : Nat) : Int) else tA τ 14 i := by
    intro i
    rw [tA_sA, tA_sA]
    by_cases z : i = k
    · rw [if_pos ⟨rfl, by omega⟩, if_pos z]
    · rw [if_neg (by omega), if_neg z, if_neg (by omega)]
  have e15 : ∀ i : Nat, tA (sA (sA τ 15 (4 * k + j : Nat) s) 14 k (j + 1 : Nat)) 15 i = if i = 4 * k + j then s else tA τ 15 i := by
    intro i
    rw [tA_sA, if_neg (by omega), tA_sA]
    by_cases z : i = 4 * k + j
    · rw [if_pos ⟨rfl, by omega⟩, if_pos z]
    · rw [if_neg (by omega), if_neg z]
  refine ⟨a, b1, b2, b3, fun i hi => ?_, b5, ?_, ?_⟩
  · rw [en] at hi ⊢
    obtain ⟨h1', h2, h3, h4, h5, h6, h7, h8, h9, h10, h11, h12⟩ := b4 i hi
    have hkk := b4 k (by omega)
    have hne : i ≠ k → kd w p i ≠ kd w p k := fun z y => z (K0.inj hi (by omega) y)
    refine ⟨h1', h2, h3, h4, h5, ?_, ?_, ?_, h9, h10, h11, fun q hq => ?_⟩
    · rw [e14]
      show fI (pI (qI w (fR w 41 (kd w p k)) j s) 42 (kd w p k) (j + 1 : Nat)) 42 (kd w p i) = _
      rw [fI_pI]
      by_cases z : i = k
      · rw [if_pos z, if_pos ⟨rfl, by rw [z]⟩]
      · rw [if_neg z, if_neg (fun y => hne z y.2)]; exact h6
    · rw [e14]; split <;> omega
    · rw [e14]; split <;> omega
    · rw [e14] at hq
      have e2 : aI (pI (qI w (fR w 41 (kd w p k)) j s) 42 (kd w p k) (j + 1 : Nat)) (fR w 41 (kd w p i)) q = if i = k ∧ q = j then s else aI w (fR w 41 (kd w p i)) q := by
        show aI (qI w (fR w 41 (kd w p k)) j s) (fR w 41 (kd w p i)) q = _
        rw [aI_qI, h11, hkk.2.2.2.2.2.2.2.2.2.2.1]
        by_cases z : i = k ∧ q = j
        · rw [if_pos ⟨by rw [z.1], by omega⟩, if_pos z]
        · rw [if_neg (fun y => z ⟨K0.inj hi (by omega) (by omega), by omega⟩), if_neg z]
      have e15' : tA (sA (sA τ 15 (4 * k + j : Nat) s) 14 k (j + 1 : Nat)) 15 (4 * (i : Int) + q) = if i = k ∧ q = j then s else tA τ 15 (4 * (i : Int) + q) := by
        have := e15 (4 * i + q)
        rw [show ((4 * i + q : Nat) : Int) = 4 * (i : Int) + q by omega] at this
        rw [this]
        have hq4 : q < 4 := by split at hq <;> omega
        by_cases z : i = k ∧ q = j
        · rw [if_pos z, if_pos (by omega)]
        · rw [if_neg z, if_neg (by omega)]
      show aI (pI (qI w (fR w 41 (kd w p k)) j s) 42 (kd w p k) (j + 1 : Nat)) (fR w 41 (kd w p i)) q = _ ∧ _
      rw [e2, e15']
      by_cases z : i = k ∧ q = j
      · simp only [if_pos z]; exact ⟨trivial, h0, h1⟩
      · simp only [if_neg z]
        refine h12 q ?_
        split at hq
        · rename_i y
          rw [y, hm]; omega
        · exact hq
  · intro i hi
    show fI (pI (qI w (fR w 41 (kd w p k)) j s) 42 (kd w p k) (j + 1 : Nat)) 40 (kd w p i) = _
    rw [fI_of _ _ _ _ (by decide)]
    rw [slN_eq (τ := τ) i k (fun q _ => e13 q)]
    exact b6 i hi
  · intro i q hi hq hu
    rw [en] at hi hq
    rw [e13] at hu
    rw [e14]
    have h0 := b7 i q hi hq hu
    have : q ≠ k := by
      intro z
      have := (K0.un i hi).2
      rcases this with y | ⟨u, y1, y2⟩
      · have hu : tA τ 13 i = q := hu
        omega
      · have hu : tA τ 13 i = q := hu
        omega
    rw [if_neg this]
    exact h0
/-- a kind more, without parts -/
noncomputable def nkW (p : Nat) (w : CW) (v : Int) (x4 : Nat) : CW := pI (qR (pR (pI (pI (pR (nA (nO w 3 6) 102 4) 41 (cz w + 1) (cz w + 1 + 1)) 37 (cz w + 1) (fI w 1 p)) 38 (cz w + 1) v) 39 (cz w + 1) x4) (fR w 0 p) (fI w 1 p) (cz w + 1)) 1 p (w32 (fI w 1 p + 1))
theorem nkW_fr (W : WF p w) (h24 : fI w 1 p < 24) (v : Int) (x4 : Nat) : Fr [p, fR w 0 p] w (nkW p w v x4) ∧ PF [1] p w (nkW p w v x4) ∧ WF p (nkW p w v x4) := by
  have hz := W.pz
  have h1 : cz w < cz w + 1 := Nat.lt_succ_self _
  refine ⟨?_, ?_, ?_⟩
  · exact (((((((((Fr.refl _ w).snO).snA).spR (Or.inr h1)).spI (Or.inr h1)).spI (Or.inr h1)).spR (Or.inr h1)).sqR (Or.inl (by simp))).spI (Or.inl (by simp)))
  · have hne : p ≠ cz w + 1 := by omega
    exact (((((((((PF.refl _ p w).snO hz).snA).spR (Or.inr hne)).spI (Or.inr hne)).spI (Or.inr hne)).spR (Or.inr hne)).sqR).spI (Or.inl (by simp)))
  · have e1 : w32 (fI w 1 p + 1) = fI w 1 p + 1 := w32_s (by have := W.2.2.2.1; omega) (by omega)
    exact (((((((W.snO 3 6).snA 102 4).spR _ _ _).spI _ _ _).spI _ _ _).spR _ _ _).sqR _ _ _).set _ _ (fun _ => by rw [show w32 (fI w 1 p + 1) = fI w 1 p + 1 from e1]; have := W.2.2.2.1; omega) (fun z => absurd z (by decide))
theorem KRs.new (W : WF p w) (K : KR p w τ) (hn : nK τ < 24) {v uv : Int} {x4 : Nat} (hv : ∀ j, j < nK τ → tA τ 12 j ≠ v) (hx : (x4 = 0 ∧ uv = -4) ∨ ∃ u : Nat, u < nK τ ∧ x4 = kd w p u ∧ uv = u ∧ tA τ 14 u = 0) {τ' : TW} (e10 : tI τ' 10 = tI τ 10 + 1)
    (e12 : ∀ j : Nat, tA τ' 12 j = if j = nK τ then v else tA τ 12 j) (e13 : ∀ j : Nat, tA τ' 13 j = if j = nK τ then uv else tA τ 13 j) (e14 : ∀ j : Nat, tA τ' 14 j = if j = nK τ then 0 else tA τ 14 j) (e15 : ∀ i, tA τ' 15 i = tA τ 15 i) :
    KRs p (nkW p w v x4) τ' (nK τ) ∧ nK τ' = nK τ + 1 ∧ kd (nkW p w v x4) p (nK τ) = cz w + 1 ∧ ∀ j, j < nK τ → kd (nkW p w v x4) p j = kd w p j := by
  have h24 : fI w 1 p < 24 := by
    have a : fI w 1 p = tI τ 10 := K.2.1
    have b : 0 ≤ tI τ 10 := K.2.2.1
    have c : nK τ = (tI τ 10).toNat := rfl
    omega
  obtain ⟨F, P, W'⟩ := nkW_fr W h24 v x4
  obtain ⟨⟨a1, a2, a3, a4⟩, b1, b2, b3, b4, b5, b6, b7⟩ := K
  have hz := W.pz
  have hnk : (nK τ : Int) = tI τ 10 := by unfold nK; omega
  have en : nK τ' = nK τ + 1 := by
    have h1 : (nK τ' : Int) = tI τ' 10 := by unfold nK; omega
    omega
  have haz := W.le (r := fR w 0 p) (by rw [a1]; decide)
  have e0 : fR (nkW p w v x4) 0 p = fR w 0 p := (P 0 (by decide)).2
  have ew1 : fI (nkW p w v x4) 1 p = (nK τ : Int) + 1 := by
    have : fI (nkW p w v x4) 1 p = w32 (fI w 1 p + 1) := fI_at _ _ _ _
    rw [this, b1, w32_s (by omega) (by omega)]; omega
  have ekd : ∀ j : Nat, kd (nkW p w v x4) p j = if j = nK τ then cz w + 1 else kd w p j := by
    intro j
    unfold kd
    rw [e0]
    show aR (qR (pR (pI (pI (pR (nA (nO w 3 6) 102 4) 41 (cz w + 1) (cz w + 1 + 1)) 37 (cz w + 1) (fI w 1 p)) 38 (cz w + 1) v) 39 (cz w + 1) x4) (fR w 0 p) (fI w 1 p) (cz w + 1)) (fR w 0 p) j = _
    rw [aR_qR]
    by_cases z : j = nK τ
    · rw [if_pos ⟨rfl, by rw [b1]; omega⟩, if_pos z]
    · rw [if_neg (by rw [b1]; omega), if_neg z]
      show aR (nA (nO w 3 6) 102 4) (fR w 0 p) j = _
      rw [aR_nA, if_neg (by show fR w 0 p ≠ cz w + 1 + 1; omega)]
      rfl
  have eold : ∀ j, j < nK τ → ob (nkW p w v x4) (kd w p j) = ob w (kd w p j) := by
    intro j hj
    have hl := b4 j hj
    refine F.2.2.2.2 _ (W.le (by rw [hl.1]; decide)) (fun z => ?_)
    have h1 := hl.1
    have h2 := hl.2.1
    rcases List.mem_cons.mp z with y | y
    · omega
    · have := List.mem_singleton.mp y
      omega
  refine ⟨⟨⟨?_, ?_, by rw [e0]; exact a3, by rw [e0]; exact a4.1, Nat.le_trans a4.2 F.1⟩, by rw [ew1, e10]; omega, by rw [e10]; omega, by rw [e10]; omega, fun j hj => ?_, fun i j hij hj => ?_, fun j hj => ?_, fun i j hi hj hu => ?_⟩, en, by rw [ekd, if_pos rfl], fun j hj => by rw [ekd, if_neg (by omega)]⟩
  · rw [e0, (F.2.2.2.1 _ haz).1]; exact a1
  · rw [e0, (F.2.2.2.1 _ haz).2]; exact a2
  · rw [en] at hj
    by_cases z : j = nK τ
    · subst z
      unfold KL
      have hx4 : (uv = -4 ∧ x4 = 0) ∨ ∃ u : Nat, u < nK τ ∧ uv = u ∧ x4 = kd (nkW p w v x4) p u := by
        rcases hx with ⟨h1, h2⟩ | ⟨u, h1, h2, h3, _⟩
        · exact Or.inl ⟨h2, h1⟩
        · exact Or.inr ⟨u, h1, h3, by rw [ekd, if_neg (by omega)]; exact h2⟩
      rw [ekd, if_pos rfl, e12, if_pos rfl, e13, if_pos rfl, e14, if_pos rfl]
      have t1 : tg (nkW p w v x4) (cz w + 1) = 3 := by
        show tg (nA (nO w 3 6) 102 4) (cz w + 1) = 3
        rw [tg_nA, if_neg (by show cz w + 1 ≠ cz w + 1 + 1; omega), tg_nO]; exact if_pos rfl
      have t2 : fR (nkW p w v x4) 41 (cz w + 1) = cz w + 1 + 1 := by
        show fR (pR (pI (pI (pR (nA (nO w 3 6) 102 4) 41 (cz w + 1) (cz w + 1 + 1)) 37 (cz w + 1) (fI w 1 p)) 38 (cz w + 1) v) 39 (cz w + 1) x4) 41 (cz w + 1) = _
        rw [fR_of _ _ _ _ (by decide)]
        exact fR_at _ _ _ _
      have t3 : fR (nkW p w v x4) 39 (cz w + 1) = x4 := fR_at _ _ _ _
      refine ⟨t1, by omega, ?_, ?_, ?_, ?_, by omega, by omega, ?_, ?_, t2, fun i hi => by omega⟩
      · show fI (pI (qR (pR (pI (pI (pR (nA (nO w 3 6) 102 4) 41 (cz w + 1) (cz w + 1 + 1)) 37 (cz w + 1) (fI w 1 p)) 38 (cz w + 1) v) 39 (cz w + 1) x4) (fR w 0 p) (fI w 1 p) (cz w + 1)) 1 p (w32 (fI w 1 p + 1))) 37 (cz w + 1) = _
        rw [fI_of _ _ _ _ (by decide)]
        show fI (pI (pI (pR (nA (nO w 3 6) 102 4) 41 (cz w + 1) (cz w + 1 + 1)) 37 (cz w + 1) (fI w 1 p)) 38 (cz w + 1) v) 37 (cz w + 1) = _
        rw [fI_of _ _ _ _ (by decide), fI_at, b1]; omega
      · show fI (pI (qR (pR (pI (pI (pR (nA (nO w 3 6) 102 4) 41 (cz w + 1) (cz w + 1 + 1)) 37 (cz w + 1) (fI w 1 p)) 38 (cz w + 1) v) 39 (cz w + 1) x4) (fR w 0 p) (fI w 1 p) (cz w + 1)) 1 p (w32 (fI w 1 p + 1))) 38 (cz w + 1) = _
        rw [fI_of _ _ _ _ (by decide)]
        exact fI_at _ _ _ _
      · rw [t3]; exact hx4
      · show fI (pI (qR (pR (pI (pI (pR (nA (nO w 3 6) 102 4) 41 (cz w + 1) (cz w + 1 + 1)) 37 (cz w + 1) (fI w 1 p)) 38 (cz w + 1) v) 39 (cz w + 1) x4) (fR w 0 p) (fI w 1 p) (cz w + 1)) 1 p (w32 (fI w 1 p + 1))) 42 (cz w + 1) = _
        rw [fI_of _ _ _ _ (by decide)]
        show fI (pI (pI (pR (nA (nO w 3 6) 102 4) 41 (cz w + 1) (cz w + 1 + 1)) 37 (cz w + 1) (fI w 1 p)) 38 (cz w + 1) v) 42 (cz w + 1) = _
        rw [fI_of _ _ _ _ (by decide), fI_of _ _ _ _ (by decide)]
        show fI (nO w 3 6) 42 (cz w + 1) = 0
        rw [fI_nO]; exact if_pos rfl
      · rw [t2]
        show tg (nA (nO w 3 6) 102 4) (cz w + 1 + 1) = 102
        rw [tg_nA]; exact if_pos rfl
      · rw [t2]
        show ln (nA (nO w 3 6) 102 4) (cz w + 1 + 1) = 4
        rw [ln_nA]; exact if_pos rfl
    · have hj' : j < nK τ := by omega
      have hl := KL.fr (T := [fR w 0 p]) (w' := nkW p w v x4) (τ' := τ') (m := nK τ) W (fun i hi => b4 i (by omega)) F (fun r hr => by rw [List.mem_singleton.mp hr]; exact Or.inl a4.1) (fun i hi => by rw [ekd, if_neg (by omega)]) (k := j) (by rw [e12, if_neg z]) (by rw [e13, if_neg z]) (by rw [e14, if_neg z]) (fun i _ => e15 _)
      rw [en]
      obtain ⟨h1, h2, h3, h4, h5, h6, h7, h8, h9, h10, h11, h12⟩ := hl
      exact ⟨h1, h2, h3, h4, h5, h6, h7, h8, h9, h10, h11, fun i hi => ⟨(h12 i hi).1, (h12 i hi).2.1, by have := (h12 i hi).2.2; omega⟩⟩
  · rw [en] at hj
    rw [e12, e12, if_neg (by omega)]
    by_cases z : j = nK τ
    · rw [if_pos z]; exact hv i (by omega)
    · rw [if_neg z]; exact b5 i j hij (by omega)
  · rw [en] at hj
    have hsl : ∀ i : Int, slN τ' i (nK τ) = slN τ i (nK τ) := fun i => slN_eq i (nK τ) (fun q hq => by rw [e13, if_neg (by omega)])
    rw [ekd, hsl]
    by_cases z : j = nK τ
    · rw [if_pos z]
      have h0 : fI (nkW p w v x4) 40 (cz w + 1) = 0 := by
        show fI (pI (qR (pR (pI (pI (pR (nA (nO w 3 6) 102 4) 41 (cz w + 1) (cz w + 1 + 1)) 37 (cz w + 1) (fI w 1 p)) 38 (cz w + 1) v) 39 (cz w + 1) x4) (fR w 0 p) (fI w 1 p) (cz w + 1)) 1 p (w32 (fI w 1 p + 1))) 40 (cz w + 1) = _
        rw [fI_of _ _ _ _ (by decide)]
        show fI (pI (pI (pR (nA (nO w 3 6) 102 4) 41 (cz w + 1) (cz w + 1 + 1)) 37 (cz w + 1) (fI w 1 p)) 38 (cz w + 1) v) 40 (cz w + 1) = _
        rw [fI_of _ _ _ _ (by decide), fI_of _ _ _ _ (by decide)]
        show fI (nO w 3 6) 40 (cz w + 1) = 0
        rw [fI_nO]; exact if_pos rfl
      rw [h0]
      have : ∀ n, n ≤ nK τ → slN τ j n = 0 := by
        intro n
        induction n with
        | zero => intro _; rfl
        | succ n ih =>
          intro hn
          show (if ¬ (slN τ j n = 0) ∨ tA τ 13 n = j then (1 : Int) else 0) = 0
          rw [ih (by omega), if_neg]
          intro y
          rcases y with y | y
          · exact y rfl
          · rcases (b4 n (by omega)).2.2.2.2.1 with x | ⟨u, x1, x2, _⟩
            · omega
            · omega
      exact (this _ (Nat.le_refl _)).symm
    · rw [if_neg z, ob.efI (eold j (by omega))]
      exact b6 j (by omega)
  · rw [en] at hi hj
    rw [e13] at hu
    rw [e14]
    by_cases y : j = nK τ
    · rw [if_pos y]
    · rw [if_neg y]
      by_cases z : i = nK τ
      · rw [if_pos z] at hu
        rcases hx with ⟨h1, h2⟩ | ⟨u, h1, h2, h3, h4⟩
        · omega
        · have : u = j := by omega
          rw [← this]; exact h4
      · rw [if_neg z] at hu
        exact b7 i j (by omega) (by omega) hu
end ZKindW
