/-! a function's tree, both -/
section ZTre
variable {p b e d f F n lo wy A : Nat} {w w' : CW} {τ σ : TW} {rs : List (Nat × Nat)} {ps : List Pa} {ro : Nat × Nat → Nat} {ru : Nat → Nat}
theorem LAID.rp (h : LAID p w τ f F n A lo ps ro ru) : ∃ m, FC w τ f F m ∧ 1 ≤ m ∧ ∀ i, i < n → RP τ (16 * f + i) m := by
  have hru := fun i hi => h.rus (i := i) hi
  obtain ⟨a1, ⟨m, a2, a3⟩, -, ⟨a5, -⟩, -, a12, -⟩ := h
  refine ⟨m, a2, a3, fun i hi => ?_⟩
  obtain ⟨_, _, r⟩ := hru i hi
  obtain ⟨m', r1, r2, -⟩ := r.whole a12.1.2.1 (a5 i hi)
  have : m' = m := by have := a2.1; omega
  rw [← this]
  exact r2
theorem fil_sum_le {α : Type} {c : α → Prop} (g : α → Nat) : ∀ l : List α, ((fil c l).map g).sum ≤ (l.map g).sum := by
  intro l
  induction l with
  | nil => exact Nat.le_refl _
  | cons x l ih =>
    by_cases q : c x
    · rw [fil_cons_1 q]
      simp only [List.map_cons, List.sum_cons]
      omega
    · rw [fil_cons_0 q]
      simp only [List.map_cons, List.sum_cons]
      omega
theorem LAID.sub {bare : Int} (h : LAID p w τ f F n A lo ps ro ru) : CX τ f (rowsK τ f bare n) := by
  obtain ⟨-, -, -, -, -, a12, -⟩ := h
  obtain ⟨c1, c2, c3, c4⟩ := a12.2.2.1
  have hs : ∀ x, x ∈ rowsK τ f bare n → x ∈ rowsK τ f 0 n := fun x hx => by rw [rowsK_fil] at hx; exact (mem_fil.mp hx).1
  refine ⟨c1, Nat.le_trans (rowsK_bare f bare n) c2, ?_, fun x hx => c4 x (hs x hx)⟩
  refine Nat.le_trans ?_ c3
  rw [off_all, off_all, rowsK_fil]
  exact fil_sum_le _ _
theorem LAID.spr {bare : Int} (h : LAID p w τ f F n A lo ps ro ru) : SPRs τ f (rowsK τ f bare n) := by
  obtain ⟨m, hC, m1, hR⟩ := h.rp
  obtain ⟨-, -, -, -, -, a12, -⟩ := h
  have K := a12.1.2.1
  have n24 := a12.2.2.1.1.2.2.1
  intro x hx e he
  obtain ⟨i, i1, i2, -⟩ := (rowsK_mem n).mp hx
  have hr := hR i i1
  rw [← i2] at hr
  obtain ⟨-, k, j, π, e1, q⟩ := tsR_ext hr he
  rw [e1]
  rcases q with ⟨q1, q2, q3, -⟩ | ⟨q1, e0, q2, q3, q4, q5, q6, q7, -⟩
  · have := (hC.2.2.2 j q3).2
    show 0 ≤ (if k = 24 then tA τ 44 (3 * f + j : Nat) else tA τ 15 (4 * k + j : Nat)) ∧ (if k = 24 then tA τ 44 (3 * f + j : Nat) else tA τ 15 (4 * k + j : Nat)) < _
    rw [if_pos q2]
    exact this
  · have := ((K.2.2.2.2.1 k q6).2.2.2.2.2.2.2.2.2.2.2 j q7).2
    show 0 ≤ (if k = 24 then tA τ 44 (3 * f + j : Nat) else tA τ 15 (4 * k + j : Nat)) ∧ (if k = 24 then tA τ 44 (3 * f + j : Nat) else tA τ 15 (4 * k + j : Nat)) < _
    rw [if_neg (by omega)]
    exact this
/-- the component's tree -/
def TRC (p : Nat) (w : CW) (τ : TW) (f F n : Nat) (ps : List Pa) (ro : Nat × Nat → Nat) (wy lo : Nat) : Prop := (fI w 53 F = wy ∧ fI w 54 F = nK τ) ∧ CTn p w w τ f F ps (rowsK τ f 0 n) ro wy lo 121 [] 0 (fR w 52 F)
theorem TRC.fr {T : List Nat} {lt : Nat} (h : TRC p w τ f F n ps ro wy lt) (W : WF p w) (fr : Fr T w w') (hT : ∀ x, x ∈ T → x ≤ lt ∨ cz w < x ∨ tg w x = 3 ∨ tg w x = 4 ∨ tg w x = 115) (eI : ∀ g, g = 53 ∨ g = 54 → fI w' g F = fI w g F) (eR : fR w' 52 F = fR w 52 F) (hp : ∀ π, plo w' F ps π = plo w F ps π) (hk : ∀ k, k < nK τ → kd w' p k = kd w p k) : TRC p w' τ f F n ps ro wy lt := by
  obtain ⟨⟨a1, a2⟩, a3⟩ := h
  refine ⟨⟨by rw [eI 53 (by decide)]; exact a1, by rw [eI 54 (by decide)]; exact a2⟩, ?_⟩
  rw [eR]
  refine CTn.ws hp hk _ _ _ _ (CTn.eo2 (w := w) (fun q q1 q2 => fr.2.2.2.2 q (W.le (by omega)) (fun y => ?_)) _ _ _ _ a3)
  have := hT q y
  have := W.le (r := q) (by omega)
  omega
/-- the reference's tree -/
def TRT (τ σ : TW) (f n wy : Nat) : Prop := (tA σ 77 f = ((tsz τ (rowsK τ f 0 n) wy 121 [] : Nat) : Int) ∧ tA σ 78 f = wy ∧ tA σ 79 f = nK τ) ∧ TT τ σ (rowsK τ f 0 n) wy (300 * f) 121 [] 0 ∧ (tA σ 85 (300 * f : Nat) = -4 ∧ tA σ 88 (300 * f : Nat) = -4) ∧ tsz τ (rowsK τ f 0 n) wy 121 [] ≤ 120
theorem TRT.fr {ρ : TW} (h : TRT τ σ f n wy) (e77 : tA ρ 77 f = tA σ 77 f) (e78 : tA ρ 78 f = tA σ 78 f) (e79 : tA ρ 79 f = tA σ 79 f) (eN : ∀ g (i : Nat), 80 ≤ g → g ≤ 92 → 300 * f ≤ i → i < 300 * f + 121 → tA ρ g i = tA σ g i) : TRT τ ρ f n wy := by
  obtain ⟨⟨a1, a2, a3⟩, a4, ⟨a5, a6⟩, a7⟩ := h
  refine ⟨⟨by rw [e77]; exact a1, by rw [e78]; exact a2, by rw [e79]; exact a3⟩, TT.in 121 [] 0 (fun g h1 h2 => eN g _ h1 (by omega) (by omega) (by omega)) (fun g i h1 h2 h3 h4 => eN g i h1 h2 (by omega) (by omega)) a4, ⟨?_, ?_⟩, a7⟩
  · rw [eN 85 _ (by decide) (by decide) (by omega) (by omega)]; exact a5
  · rw [eN 88 _ (by decide) (by decide) (by omega) (by omega)]; exact a6
/-- a tree is made anew: the component -/
theorem sC_remake {lim : Int} (hL : LAID p w τ f F n A lo ps ro ru) (W : WF p w) (hwy : wy ≤ 3) (hm : lim ≤ mu w ∧ lim ≤ 5 * mz w) (hlim : zm w + 34000 ≤ lim) {Q : ZRes → CW → Prop}
    (hQ : ∀ w', tsz τ (rowsK τ f 0 n) wy 121 [] ≤ 120 → Fr [F] w w' → WF p w' → PF [] p w w' → (∀ g, g ≠ 53 → g ≠ 54 → fI w' g F = fI w g F) → (∀ g, g ≠ 52 → fR w' g F = fR w g F) → TRC p w' τ f F n ps ro wy (cz w) → zm w' ≤ zm w + 34000 → Q (.inl none) w') (hX : ∀ x w', 120 < tsz τ (rowsK τ f 0 n) wy 121 [] → Fr [] w w' → WF p w' → tg w' x = 18 → zm w' ≤ zm w + 34000 → Q (.inr x) w') : wpC p (d + 250) 88 [ar F, ai (wy : Nat)] w Q := by
  have hC := hL.sub (bare := 0)
  have hsp := hL.spr (bare := 0)
  obtain ⟨⟨⟨h1, h2, h3, h4, h5⟩, -⟩, -, -, -, ⟨a8, a9, a10, a11⟩, a12, -, ⟨a15, a16, a17⟩, -⟩ := id hL
  have K := a12.1.2.1
  have lF := W.le (r := F) (by rw [h1]; decide)
  have hz := W.pz
  refine wC_X4_remake (Nat.zero_le _) (bC_X4_remake_0 ⟨h1, ?_⟩)
  refine sC_fmake (d := d) (bare := 0) (rs' := rowsK τ f 0 n) (by symm; exact fil_sel (fun x _ => Or.inl rfl)) a12 ⟨h2, h5, a8⟩ (by omega) ⟨a10, a11⟩ hC hwy hsp hm hlim (fun r w1 hle f1 W1 z1 c1 => ?_) (fun x w1 hgt f1 W1 t1 z1 => hX x w1 hgt f1 W1 t1 z1)
  have tF1 : tg w1 F = 4 := by rw [(f1.2.2.2.1 F lF).1]; exact h1
  have oF := f1.2.2.2.2 F lF (by simp)
  have op := f1.2.2.2.2 p hz (by simp)
  have lF1 : F ≤ cz w1 := Nat.le_trans lF f1.1
  obtain ⟨w2, e2⟩ : ∃ w2, w2 = pI (pI (pR w1 52 F r) 53 F wy) 54 F (nK τ) := ⟨_, rfl⟩
  have pF : p ≠ F := by omega
  have k1 : fI w1 1 p = nK τ := by
    rw [ob.efI op]
    have k5 := K.2.1
    have k6 := K.2.2.1
    change fI w 1 p = tI τ 10 at k5
    have k6 : 0 ≤ tI τ 10 := k6
    rw [k5]; unfold nK; change tI τ 10 = ((tI τ 10).toNat : Int); omega
  refine ⟨?_, fa ⟨?_, fa ⟨?_, ?_, ?_, fa ?_⟩⟩⟩
  · rw [tF1]; decide
  · show hP 53 (tg w1 F) = true; rw [tF1]; decide
  · show hF 55 (tg w1 F) = true; rw [tF1]; decide
  · have e55 : fR (pI (pR w1 52 F r) 53 F (wy : Nat)) 55 F = p := by
      rw [fR_pI, fR_pR, if_neg (by omega), ob.efR oF]; exact h5
    rw [e55]
    show hF 1 (tg w1 p) = true
    rw [W1.2.1]; decide
  · show hP 54 (tg w1 F) = true; rw [tF1]; decide
  have e55 : fR (pI (pR w1 52 F r) 53 F (wy : Nat)) 55 F = p := by
    rw [fR_pI, fR_pR, if_neg (by omega), ob.efR oF]; exact h5
  have e1 : fI (pI (pR w1 52 F r) 53 F (wy : Nat)) 1 p = nK τ := by
    rw [fI_pI, if_neg (by omega), fI_pR]; exact k1
  rw [e55, e1, ← e2]
  have f2 : Fr [F] w1 w2 := by rw [e2]; exact (((Fr.refl _ _).spR (Or.inl (by simp))).spI (Or.inl (by simp))).spI (Or.inl (by simp))
  have f12 : Fr [F] w w2 := (f1.mono (fun q hq => by cases hq)).trans f2
  have z2 : zm w2 = zm w1 := by rw [e2]; rfl
  have W2 : WF p w2 := by rw [e2]; exact ((W1.spR _ _ _).spI _ _ _ (Or.inl (by decide))).spI _ _ _ (Or.inl (by decide))
  have T1 := hL.fr (T := []) W f1 W1 (fun x hx => by cases hx) (fun g _ _ => ob.efI oF g) (fun g _ => ob.efR oF g) (KX.refl τ) ((a12.fr f1 W1).1.1.2.1) (fun k _ => (a12.fr f1 W1).2.2 k)
  refine hQ w2 hle f12 W2 (PF.of f12 hz (fun y => by have := List.mem_singleton.mp y; omega)) (fun g g1 g2 => ?_) (fun g g1 => ?_) ⟨⟨?_, ?_⟩, ?_⟩ (by rw [z2]; exact z1)
  · rw [e2, fI_pI, if_neg (by omega), fI_pI, if_neg (by omega), fI_pR]; exact ob.efI oF g
  · rw [e2, fR_pI, fR_pI, fR_pR, if_neg (by omega)]; exact ob.efR oF g
  · rw [e2, fI_pI, if_neg (by omega), fI_pI, if_pos ⟨rfl, rfl⟩]
  · rw [e2, fI_pI, if_pos ⟨rfl, rfl⟩]
  · have er : fR w2 52 F = r := by rw [e2, fR_pI, fR_pI, fR_pR, if_pos ⟨rfl, rfl⟩]
    rw [er]
    have oo : ∀ q, q ≠ F → q ≤ cz w1 → ob w2 q = ob w1 q := fun q h1 h2 => f2.2.2.2.2 q h2 (fun y => h1 (List.mem_singleton.mp y))
    have c1' : CTn p w1 w1 τ f F ps (rowsK τ f 0 n) ro wy (cz w) 121 [] 0 r := CTn.ws (wS := w) (fun π => T1.2 π) (fun k _ => (a12.fr f1 W1).2.2 k) _ _ _ _ c1
    have d3 := hL.1.2.2.2
    have l50 : F + 3 ≤ cz w := W.le (by rw [d3.2.1]; decide)
    refine CTn.ws (wS := w1) (fun π => ?_) (fun k _ => ?_) _ _ _ _ (CTn.eo2 (w := w1) (fun q q1 q2 => oo q (by omega) (W1.le (by omega))) _ _ _ _ c1')
    · unfold plo
      have e50 : fR w2 50 F = fR w1 50 F := by rw [e2, fR_pI, fR_pI, fR_pR, if_neg (by omega)]
      have e50' : fR w1 50 F = F + 3 := by rw [ob.efR oF]; exact d3.1
      rw [e50, e50']
      have := oo (F + 3) (by omega) (Nat.le_trans l50 f1.1)
      rw [ob.eaR this]
    · have k0 : fR w1 0 p ≤ cz w1 ∧ fR w1 0 p ≠ F := by
        rw [ob.efR op]
        have k1 := K.1.1
        change tg w (fR w 0 p) = 112 at k1
        have := W.le (r := fR w 0 p) (by rw [k1]; decide)
        exact ⟨Nat.le_trans this f1.1, fun q => by rw [q, h1] at k1; cases k1⟩
      have e0 : fR w2 0 p = fR w1 0 p := by rw [e2, fR_pI, fR_pI, fR_pR, if_neg (by omega)]
      unfold kd
      show aR w2 (fR w2 0 p) k = aR w1 (fR w1 0 p) k
      rw [e0]
      have := oo _ k0.2 k0.1
      rw [ob.eaR this]
theorem FL.keep {T : List Nat} {l h' : Nat} (h : FL p w τ f l h') (W : WF p w) (fr : Fr T w w') (hT : ∀ x, x ∈ T → x ≤ p + 8 ∨ cz w < x ∨ (tg w x = 4 ∧ x ≠ fnr w p f) ∨ (tg w x = 115 ∧ x ≠ fnr w p f + 3)) (ef : fnr w' p f = fnr w p f) (hK : KR p w τ) (hk : ∀ k, k < nK τ → kd w' p k = kd w p k) : FL p w' τ f l h' := by
  obtain ⟨m, k, h1, h2, h3, h4, h5⟩ := h
  obtain ⟨⟨t1, t2, t3, t4, t5⟩, ⟨b1, b2⟩, ⟨c1, c2, c3⟩, ⟨d1, d2, d3⟩⟩ := id h1
  obtain ⟨F, hF⟩ : ∃ F, F = fnr w p f := ⟨_, rfl⟩
  rw [← hF] at h1 h2 h4 h5 ef hT t1 t2 t3 t4 t5 b1 b2 c1 c2 c3 d1 d2 d3
  have t : ∀ r, tg w r ≠ 0 → tg w' r = tg w r ∧ ln w' r = ln w r := fun r hr => fr.2.2.2.1 r (W.le hr)
  have o : ∀ r, p + 8 < r → tg w r ≠ 0 → (tg w r = 4 → r = F) → (tg w r = 115 → r = F + 3) → ob w' r = ob w r := fun r q1 q2 q3 q4 => fr.2.2.2.2 r (W.le q2) (fun hm => by
    have := W.le q2
    rcases hT r hm with y | y | ⟨y1, y2⟩ | ⟨y1, y2⟩
    · omega
    · omega
    · exact y2 (q3 y1)
    · exact y2 (q4 y1))
  have oF := o F t2 (by rw [t1]; decide) (fun _ => rfl) (fun q => by rw [t1] at q; cases q)
  have o1 := o (F + 1) b2.2.2 (by rw [b2.1]; decide) (fun q => by rw [b2.1] at q; cases q) (fun q => by rw [b2.1] at q; cases q)
  have o2 := o (F + 2) (by omega) (by rw [c2]; decide) (fun q => by rw [c2] at q; cases q) (fun q => by rw [c2] at q; cases q)
  have hTk : TkF p w T := fun x hxm => by
    rcases hT x hxm with y | y | y | y
    · exact Or.inl y
    · exact Or.inr (Or.inl y)
    · exact Or.inr (Or.inr (Or.inl y.1))
    · exact Or.inr (Or.inr (Or.inr (Or.inr (Or.inl y.1))))
  refine ⟨m, k, ?_, ?_, h3, ?_, ?_⟩
  · rw [ef]; exact h1.keep t (fun g _ => ob.efI oF g) (fun g _ => ob.efR oF g) rfl
  · rw [ef]; exact h2.keep (ob.efI oF 46) (fun j => ob.eaI o1 j) (KX.refl τ)
  · rw [ef]; exact h4.keep (ob.efI oF 48) (fun i => ob.eaR o2 i) W fr hTk (KX.refl τ) ((KX.refl τ).kdk hK hk)
  · rw [ef, ob.efI oF]; exact h5
end ZTre
