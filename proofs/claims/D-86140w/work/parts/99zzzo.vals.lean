/-! values: the objects and the reference's rows; plain ones are made -/
section ZVals
variable {p b e d : Nat} {w : CW} {τ : TW}
/-- of the m highest bytes: how many aren't 0; whether they may be a text's -/
noncomputable def cn (x : Int) : Nat → Nat
  | 0 => 0
  | m + 1 => cn x m + (if bT x (7 - m) = 0 then 0 else 1)
def smb (c : Int) : Prop := ¬ (c < 97) ∧ ¬ (122 < c)
def okx (x : Int) : Nat → Prop
  | 0 => True
  | m + 1 => okx x m ∧ (smb (bT x (7 - m)) ∨ (bT x (7 - m) = 0 ∧ cn x m = 0))
theorem cn_ok {x : Int} : ∀ m, cn x m = 0 → okx x m := by
  intro m
  induction m with
  | zero => intro _; trivial
  | succ m ih =>
    intro h
    unfold cn at h
    split at h
    · rename_i z
      exact ⟨ih (by omega), Or.inr ⟨z, by omega⟩⟩
    · omega
theorem cn_le {x : Int} : ∀ m, cn x m ≤ m := by
  intro m
  induction m with
  | zero => exact Nat.le_refl 0
  | succ m ih =>
    unfold cn
    split <;> omega
def nV (τ : TW) : Nat := (tI τ 109).toNat
/-- the v-th value's object -/
def vr (w : CW) (p v : Nat) : Nat := aR w (fR w 3 p) v
def VR (p : Nat) (w : CW) (τ : TW) (v r : Nat) : Prop := (p + 8 < r ∧ fI w 113 r = v ∧ fI w 114 r = tA τ 113 v ∧ 1 ≤ tA τ 113 v ∧ tA τ 113 v ≤ 60) ∧
  ((tA τ 110 v = 0 ∧ tg w r = 26 ∧ fI w 115 r = tA τ 111 v ∧ tA τ 112 v = 0 ∧ tA τ 113 v = 1) ∨
   (tA τ 110 v = 1 ∧ tg w r = 27 ∧ fI w 115 r = tA τ 111 v ∧ (tA τ 111 v = 0 ∨ tA τ 111 v = 1) ∧ tA τ 112 v = 0 ∧ tA τ 113 v = 1) ∨
   (tA τ 110 v = 2 ∧ tg w r = 28 ∧ fI w 116 r = tA τ 112 v ∧ (tA τ 111 v = cn (tA τ 112 v) 8 ∧ okx (tA τ 112 v) 8 ∧ -9223372036854775808 ≤ tA τ 112 v ∧ tA τ 112 v < 9223372036854775808) ∧ tA τ 113 v = 1) ∨
   (tA τ 110 v = 3 ∧ tg w r = 29 ∧ tA τ 111 v = -4 ∧ tA τ 112 v = 0 ∧ tA τ 113 v = 1) ∨
   (tA τ 110 v = 4 ∧ tg w r = 30 ∧ tA τ 112 v = 0 ∧ ∃ k m : Nat, tA τ 111 v = k ∧ k < nK τ ∧ fR w 117 r = kd w p k ∧ tA τ 14 k = m ∧ m ≤ 4 ∧ (tg w (fR w 118 r) = 119 ∧ ln w (fR w 118 r) = m ∧ p + 8 < fR w 118 r) ∧ ∀ i : Nat, i < m → ∃ u : Nat, u < v ∧ tA τ 114 (4 * v + i : Nat) = u ∧ aR w (fR w 118 r) i = vr w p u))
def VA (p : Nat) (w : CW) : Prop := tg w (fR w 3 p) = 119 ∧ ln w (fR w 3 p) = 160 ∧ p < fR w 3 p ∧ fR w 3 p ≤ p + 8
def VAL (p : Nat) (w : CW) (τ : TW) : Prop := VA p w ∧ fI w 4 p = tI τ 109 ∧ 0 ≤ tI τ 109 ∧ tI τ 109 ≤ 160 ∧ ∀ v, v < nV τ → VR p w τ v (vr w p v)
theorem VR.fr {w' : CW} {τ' : TW} {v r : Nat} (h : VR p w τ v r) (W : WF p w) (ho : ∀ r, r ≤ cz w → p + 8 < r → (26 ≤ tg w r ∧ tg w r ≤ 30) ∨ tg w r = 119 → ob w' r = ob w r) (hv : ∀ u, u < v → vr w' p u = vr w p u) (hτ : ∀ f, f = 110 ∨ f = 111 ∨ f = 112 ∨ f = 113 → tA τ' f v = tA τ f v) (h114 : ∀ i : Nat, i < 4 → tA τ' 114 (4 * v + i : Nat) = tA τ 114 (4 * v + i : Nat)) (hk : nK τ ≤ nK τ' ∧ ∀ k, k < nK τ → kd w' p k = kd w p k ∧ tA τ' 14 k = tA τ 14 k) : VR p w' τ' v r := by
  obtain ⟨⟨a1, a2, a3, a4, a5⟩, h⟩ := h
  have ht : 26 ≤ tg w r ∧ tg w r ≤ 30 := by
    rcases h with h | h | h | h | h <;> omega
  have o := ho r (W.le (by omega)) a1 (Or.inl ht)
  have e := ob.efI o
  have er := ob.efR o
  have t := ob.etg o
  have q0 := hτ 110 (by decide)
  have q1 := hτ 111 (by decide)
  have q2 := hτ 112 (by decide)
  have q3 := hτ 113 (by decide)
  unfold VR
  rw [e, e, e, e, er, er, t, q0, q1, q2, q3]
  refine ⟨⟨a1, a2, a3, a4, a5⟩, ?_⟩
  rcases h with h | h | h | h | ⟨h1, h2, h3, k, m, k1, k2, k3, k4, k5, ⟨k6, k7, k8⟩, k9⟩
  · exact Or.inl h
  · exact Or.inr (Or.inl h)
  · exact Or.inr (Or.inr (Or.inl h))
  · exact Or.inr (Or.inr (Or.inr (Or.inl h)))
  · have oa := ho _ (W.le (r := fR w 118 r) (by rw [k6]; decide)) k8 (Or.inr k6)
    refine Or.inr (Or.inr (Or.inr (Or.inr ⟨h1, h2, h3, k, m, k1, by omega, k3.trans (hk.2 k k2).1.symm, (hk.2 k k2).2.trans k4, k5, ⟨(ob.etg oa).trans k6, (ob.eln oa).trans k7, k8⟩, fun i hi => ?_⟩)))
    obtain ⟨u, u1, u2, u3⟩ := k9 i hi
    exact ⟨u, u1, (h114 i (by omega)).trans u2, by rw [ob.eaR oa, hv u u1]; exact u3⟩
theorem VAL.fr {w' : CW} {τ' : TW} (h : VAL p w τ) (W : WF p w) (ho : ∀ r, r ≤ cz w → p + 8 < r → (26 ≤ tg w r ∧ tg w r ≤ 30) ∨ tg w r = 119 → ob w' r = ob w r) (ht : ∀ r, r ≤ cz w → tg w' r = tg w r ∧ ln w' r = ln w r) (hp : fR w' 3 p = fR w 3 p ∧ fI w' 4 p = fI w 4 p) (ha : ∀ i : Nat, aR w' (fR w 3 p) i = aR w (fR w 3 p) i) (hτ : ∀ f, f = 109 ∨ f = 110 ∨ f = 111 ∨ f = 112 ∨ f = 113 ∨ f = 114 → tI τ' f = tI τ f ∧ ∀ i, tA τ' f i = tA τ f i) (hk : nK τ ≤ nK τ' ∧ ∀ k, k < nK τ → kd w' p k = kd w p k ∧ tA τ' 14 k = tA τ 14 k) : VAL p w' τ' := by
  obtain ⟨⟨a1, a2, a3, a4⟩, b1, b2, b3, b4⟩ := h
  have q := (hτ 109 (by decide)).1
  have t := ht _ (W.le (r := fR w 3 p) (by rw [a1]; decide))
  have ev : ∀ u, vr w' p u = vr w p u := fun u => by unfold vr; rw [hp.1]; exact ha u
  have en : nV τ' = nV τ := by unfold nV; rw [q]
  refine ⟨?_, by rw [hp.2, q]; exact b1, by rw [q]; exact b2, by rw [q]; exact b3, fun v hv => ?_⟩
  · unfold VA
    rw [hp.1]
    exact ⟨t.1.trans a1, t.2.trans a2, a3, a4⟩
  · rw [ev]
    exact (b4 v (by omega)).fr W ho (fun u _ => ev u) (fun f hf => (hτ f (by omega)).2 _) (fun i _ => (hτ 114 (by decide)).2 _) hk
/-- a value is kept -/
def kpW (w : CW) (p : Nat) : CW := pI (qR w (fR w 3 p) (fI w 4 p) (cz w)) 4 p (fI w 4 p + 1)
theorem sC_keep {r : Nat} (hr : r = cz w) (W : WF p w) (hA : VA p w) (h0 : 0 ≤ fI w 4 p) (h1 : fI w 4 p < 160) (ht : 26 ≤ tg w r ∧ tg w r ≤ 30) {Q : ZRes → CW → Prop} (hQ : Q (.inl (some (ai (fI w 113 r)))) (kpW w p)) : wpC p (d + 1) 58 [ar p, ar r] w Q := by
  obtain ⟨a1, a2, a3, a4⟩ := hA
  refine wC_X0_keep (Nat.zero_le _) (bC_X0_keep_0 ⟨⟨by rw [a1]; decide, h0, by rw [a2]; omega⟩, Or.inr ?_, fa (fa ⟨?_, ?_⟩)⟩)
  · rw [a1]
    have : tg w r = 26 ∨ tg w r = 27 ∨ tg w r = 28 ∨ tg w r = 29 ∨ tg w r = 30 := by omega
    rcases this with h | h | h | h | h <;> rw [h] <;> decide
  · show hF 113 (tg w r) = true
    have : tg w r = 26 ∨ tg w r = 27 ∨ tg w r = 28 ∨ tg w r = 29 ∨ tg w r = 30 := by omega
    rcases this with h | h | h | h | h <;> rw [h] <;> decide
  · have e : w32 (fI (qR w (fR w 3 p) (fI w 4 p) r) 4 p + 1) = fI w 4 p + 1 := by
      show w32 (fI w 4 p + 1) = _
      exact w32_s (by omega) (by omega)
    rw [e]
    have e2 : fI (pI (qR w (fR w 3 p) (fI w 4 p) r) 4 p (fI w 4 p + 1)) 113 r = fI w 113 r := by
      show (if 113 = 4 ∧ r = p then fI w 4 p + 1 else fI w 113 r) = _
      rw [if_neg (by omega)]
    rw [e2, hr]
    rw [hr] at hQ
    exact hQ
/-- a new row of the reference's -/
def nvT (τ : TW) (k n t : Int) : TW := sI (sA (sA (sA (sA τ 110 (tI τ 109) k) 111 (tI τ 109) n) 112 (tI τ 109) t) 113 (tI τ 109) 1) 109 (tI τ 109 + 1)
theorem sT_newValue {k n t : Int} {Q : ZRes → TW → Prop} (h0 : 0 ≤ tI τ 109) (h1 : tI τ 109 ≤ 160) (hF : tI τ 109 = 160 → Q (.inl (some (ai (-3)))) τ) (hQ : tI τ 109 < 160 → Q (.inl (some (ai (tI τ 109)))) (nvT τ k n t)) : wpT (d + 1) 79 [ai k, ai n, al t] τ Q := by
  refine wT_newValue (Nat.zero_le _) (bT_newValue_0 ⟨fun z => hF z, fun z => ⟨⟨h0, by omega⟩, fa ⟨⟨h0, ?_⟩, fa ⟨⟨h0, ?_⟩, fa ⟨⟨h0, ?_⟩, fa (fa ?_)⟩⟩⟩⟩⟩)
  · show tI τ 109 < 160
    omega
  · show tI τ 109 < 160
    omega
  · show tI τ 109 < 160
    omega
  · have e4 : w32 (tI τ 109 + 1) = tI τ 109 + 1 := w32_s (by omega) (by omega)
    have e5 : w32 (w32 (tI τ 109 + 1) - 1) = tI τ 109 := by rw [e4, w32_s (by omega) (by omega)]; omega
    have key : ∀ a b : Int, a = tI τ 109 → b = tI τ 109 + 1 → Q (.inl (some (ai a))) (sI (sA (sA (sA (sA τ 110 (tI τ 109) k) 111 (tI τ 109) n) 112 (tI τ 109) t) 113 (tI τ 109) 1) 109 b) := by
      intro a b h1 h2
      rw [h1, h2]
      exact hQ (by omega)
    exact key _ _ e5 e4
/-- values that were stay -/
def VSm (p : Nat) (w : CW) (τ : TW) (w' : CW) (τ' : TW) : Prop := nV τ ≤ nV τ' ∧ ∀ v : Nat, v < nV τ → vr w' p v = vr w p v
/-- a plain value more -/
theorem VAL.add {w2 : CW} {k n t : Int} (h : VAL p w τ) (hlt : tI τ 109 < 160) (W : WF p w) (F : Fr [] w w2) (W2 : WF p w2) (hz : cz w2 = cz w + 1) (P : PF [] p w w2) (hKA : KA p w) (r1 : fI w2 113 (cz w + 1) = tI τ 109) (r2 : fI w2 114 (cz w + 1) = 1)
    (hk : (k = 0 ∧ tg w2 (cz w + 1) = 26 ∧ fI w2 115 (cz w + 1) = n ∧ t = 0) ∨ (k = 1 ∧ tg w2 (cz w + 1) = 27 ∧ fI w2 115 (cz w + 1) = n ∧ (n = 0 ∨ n = 1) ∧ t = 0) ∨ (k = 2 ∧ tg w2 (cz w + 1) = 28 ∧ fI w2 116 (cz w + 1) = t ∧ n = cn t 8 ∧ okx t 8 ∧ -9223372036854775808 ≤ t ∧ t < 9223372036854775808) ∨ (k = 3 ∧ tg w2 (cz w + 1) = 29 ∧ n = -4 ∧ t = 0)) :
    VAL p (kpW w2 p) (nvT τ k n t) ∧ Fr [p, fR w 3 p] w (kpW w2 p) ∧ PF [4] p w (kpW w2 p) ∧ WF p (kpW w2 p) ∧ FT [109, 110, 111, 112, 113] τ (nvT τ k n t) ∧ VSm p w τ (kpW w2 p) (nvT τ k n t) := by
  obtain ⟨⟨a1, a2, a3, a4⟩, b1, b2, b3, b4⟩ := id h
  have l3 := W.le (r := fR w 3 p) (by rw [a1]; decide)
  have p3 : fR w2 3 p = fR w 3 p := (P 3 (by decide)).2
  have p4 : fI w2 4 p = tI τ 109 := (P 4 (by decide)).1.trans b1
  have pz := W.pz
  obtain ⟨c1, c2, c3, c4, c5⟩ := hKA
  have c4' : fR w 0 p ≤ p + 8 := c4
  have hn : tI τ 109 = (nV τ : Int) := by unfold nV; omega
  have F2 : Fr [p, fR w 3 p] w (kpW w2 p) := by
    have : Fr [p, fR w 3 p] w w2 := F.mono (fun r hr => by cases hr)
    unfold kpW
    exact (this.sqR (Or.inl (by rw [p3]; simp))).spI (Or.inl (by simp))
  have P2 : PF [4] p w (kpW w2 p) := by
    unfold kpW
    exact ((P.mono (by decide)).sqR).spI (Or.inl (by decide))
  have W3 : WF p (kpW w2 p) := (W2.sqR _ _ _).spI _ _ _
  have Ft : FT [109, 110, 111, 112, 113] τ (nvT τ k n t) := by
    unfold nvT
    exact (((((FT.refl _ τ).ssA (by decide)).ssA (by decide)).ssA (by decide)).ssA (by decide)).ssI (by decide)
  have eA : ∀ u : Nat, vr (kpW w2 p) p u = if u = nV τ then cz w + 1 else vr w p u := fun u => by
    unfold vr
    rw [(P2 3 (by decide)).2]
    show (if fR w 3 p = fR w2 3 p ∧ (u : Int) = fI w2 4 p then cz w2 else aR w2 (fR w 3 p) u) = _
    rw [p3, p4, hz]
    by_cases z : u = nV τ
    · rw [if_pos ⟨rfl, by omega⟩, if_pos z]
    · rw [if_neg (by omega), if_neg z]
      exact ob.eaR (F.2.2.2.2 _ l3 (fun y => by cases y)) u
  have eT : ∀ f (v : Nat), (f = 110 ∨ f = 111 ∨ f = 112 ∨ f = 113) → v ≠ nV τ → tA (nvT τ k n t) f v = tA τ f v := fun f v hf hv => by
    unfold nvT
    show (if f = 113 ∧ (v : Int) = tI τ 109 then _ else if f = 112 ∧ (v : Int) = tI τ 109 then _ else if f = 111 ∧ (v : Int) = tI τ 109 then _ else if f = 110 ∧ (v : Int) = tI τ 109 then _ else tA τ f v) = _
    rw [if_neg (by omega), if_neg (by omega), if_neg (by omega), if_neg (by omega)]
  have nT : tA (nvT τ k n t) 110 (nV τ) = k ∧ tA (nvT τ k n t) 111 (nV τ) = n ∧ tA (nvT τ k n t) 112 (nV τ) = t ∧ tA (nvT τ k n t) 113 (nV τ) = 1 := by
    have e0 : ((nV τ : Nat) : Int) = tI τ 109 := hn.symm
    unfold nvT
    refine ⟨?_, ?_, ?_, ?_⟩ <;> simp only [tA_sA, tA_sI, e0] <;> simp
  have en : nV (nvT τ k n t) = nV τ + 1 := by
    have e1 : tI (nvT τ k n t) 109 = tI τ 109 + 1 := rfl
    unfold nV
    rw [e1]
    omega
  have ho : ∀ r, r ≤ cz w → p + 8 < r → ob (kpW w2 p) r = ob w r := fun r h1 h2 => F2.2.2.2.2 r h1 (fun y => by
    rcases List.mem_cons.mp y with z | z
    · omega
    · have := List.mem_singleton.mp z
      omega)
  have hkd : ∀ j, kd (kpW w2 p) p j = kd w p j := fun j => by
    unfold kd
    rw [show fR (kpW w2 p) 0 p = fR w 0 p from (P2 0 (by decide)).2]
    have t0 : tg w (fR w 0 p) = 112 := c1
    exact ob.eaR (F2.2.2.2.2 _ (W.le (r := fR w 0 p) (by rw [t0]; decide)) (fun y => by
      have c3' : p < fR w 0 p := c3
      rcases List.mem_cons.mp y with z | z
      · omega
      · have := List.mem_singleton.mp z
        rw [this, a1] at t0
        cases t0)) j
  have hnk : nK (nvT τ k n t) = nK τ := rfl
  refine ⟨⟨?_, ?_, ?_, ?_, fun v hv => ?_⟩, F2, P2, W3, Ft, by omega, fun v hv => by rw [eA, if_neg (by omega)]⟩
  · have t3 := F2.2.2.2.1 _ l3
    unfold VA
    rw [(P2 3 (by decide)).2]
    exact ⟨t3.1.trans a1, t3.2.trans a2, a3, a4⟩
  · show fI (kpW w2 p) 4 p = tI τ 109 + 1
    unfold kpW
    rw [fI_at, p4]
  · show 0 ≤ tI τ 109 + 1
    omega
  · show tI τ 109 + 1 ≤ 160
    omega
  · rw [eA]
    by_cases z : v = nV τ
    · subst z
      rw [if_pos rfl]
      have t' : tg (kpW w2 p) (cz w + 1) = tg w2 (cz w + 1) := rfl
      have f' : ∀ f, f ≠ 4 → fI (kpW w2 p) f (cz w + 1) = fI w2 f (cz w + 1) := fun f hf => by
        show (if f = 4 ∧ cz w + 1 = p then _ else fI w2 f (cz w + 1)) = _
        rw [if_neg (by omega)]
      have h8 : p + 8 ≤ cz w := c5
      unfold VR
      rw [nT.1, nT.2.1, nT.2.2.1, nT.2.2.2, t', f' 113 (by decide), f' 114 (by decide), f' 115 (by decide), f' 116 (by decide)]
      refine ⟨⟨by omega, r1.trans hn, r2, by decide, by decide⟩, ?_⟩
      rcases hk with ⟨k1, k2, k3, k4⟩ | ⟨k1, k2, k3, k4, k5⟩ | ⟨k1, k2, k3, k4⟩ | ⟨k1, k2, k3, k4⟩
      · exact Or.inl ⟨k1, k2, k3, k4, rfl⟩
      · exact Or.inr (Or.inl ⟨k1, k2, k3, k4, k5, rfl⟩)
      · exact Or.inr (Or.inr (Or.inl ⟨k1, k2, k3, k4, rfl⟩))
      · exact Or.inr (Or.inr (Or.inr (Or.inl ⟨k1, k2, k3, k4, rfl⟩)))
    · rw [if_neg z]
      refine (b4 v (by omega)).fr W (fun r h1 h2 _ => ho r h1 h2) (fun u hu => by rw [eA, if_neg (by omega)]) (fun f hf => eT f v hf z) (fun i hi => (Ft 114 (by decide)).2 _) ⟨by rw [hnk]; exact Nat.le_refl _, fun j _ => ⟨hkd j, (Ft 14 (by decide)).2 _⟩⟩
end ZVals
