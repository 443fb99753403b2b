/-! a text that stands, both -/
section ZTxt
variable {p b e d f F n lo wy A : Nat} {w w' w0 : CW} {τ σ : TW} {ps : List Pa} {ro : Nat × Nat → Nat} {ru : Nat → Nat}
/-- a function that stands -/
def FUN (p : Nat) (w : CW) (τ : TW) (f : Nat) : Prop := ∃ A lo ps ro ru lt τ0 wy, LAID p w τ f (fnr w p f) (rk τ f) A lo ps ro ru ∧ (TRC p w τ0 f (fnr w p f) (rk τ f) ps ro wy lt ∧ p + 8 ≤ lt) ∧ TRT τ0 τ f (rk τ f) wy ∧ (wy ≤ 3 ∧ KX τ0 τ ∧ CX τ0 f (rowsK τ0 f 0 (rk τ f)) ∧ SPRs τ0 f (rowsK τ0 f 0 (rk τ f)))
/-- calls that fit -/
def CL2 (p : Nat) (w : CW) (τ : TW) (f i : Nat) : Prop := CAL p w τ f i ∧ (tA τ 54 (16 * f + i : Nat) = 2 → ∀ k : Nat, (k : Int) < tA τ 58 (16 * f + i : Nat) → k < 3 → 0 ≤ hdS τ (16 * f + i) k ∧ hdS τ (16 * f + i) k < 3 + nK τ)
/-- a text -/
def TXB (p : Nat) (w : CW) (τ : TW) : Prop := (KR p w τ ∧ NA p w) ∧ (FA p w ∧ fI w 6 p = nF τ ∧ tI τ 41 = nF τ ∧ nF τ ≤ 12 ∧ np τ ≤ 800) ∧ (∀ f, f < nF τ → FUN p w τ f) ∧ (∀ f i, f < nF τ → i < rk τ f → CL2 p w τ f i) ∧ ∀ f, f < nF τ → tA τ 46 f = sumR τ f (rk τ f) ∧ sumR τ f (rk τ f) ≤ 40
/-- what may be written beside a text -/
def TkT (p : Nat) (w : CW) (T : List Nat) : Prop := ∀ x, x ∈ T → x ≤ p + 8 ∨ cz w < x ∨ tg w x = 3
theorem x_rk (hx : KX τ σ) (f : Nat) : rk σ f = rk τ f := by unfold rk; rw [hx.a (by decide) (by decide)]
theorem x_nF (hx : KX τ σ) : nF σ = nF τ := by unfold nF; rw [(hx.1 41 (by decide) (by decide)).1]
theorem x_sumR (hx : KX τ σ) (f : Nat) : ∀ n, sumR σ f n = sumR τ f n := by
  intro n
  induction n with
  | zero => rfl
  | succ n ih => unfold sumR; rw [ih, hx.a (by decide) (by decide)]
theorem TkT.o {T : List Nat} (h : TkT p w T) (W : WF p w) (fr : Fr T w w') {r : Nat} (h1 : p + 8 < r) (h2 : tg w r ≠ 0 ∧ tg w r ≠ 3) : ob w' r = ob w r := fr.2.2.2.2 r (W.le h2.1) (fun y => by
  have := h r y
  have := W.le h2.1
  omega)
/-- .. or in functions themselves -/
def TkU (p : Nat) (w : CW) (T : List Nat) : Prop := ∀ x, x ∈ T → x ≤ p + 8 ∨ cz w < x ∨ tg w x = 3 ∨ tg w x = 4
theorem TkT.u {T : List Nat} (h : TkT p w T) : TkU p w T := fun x hx => by
  rcases h x hx with y | y | y
  · exact Or.inl y
  · exact Or.inr (Or.inl y)
  · exact Or.inr (Or.inr (Or.inl y))
theorem TkU.o {T : List Nat} (h : TkU p w T) (W : WF p w) (fr : Fr T w w') {r : Nat} (h1 : p + 8 < r) (h2 : tg w r ≠ 0 ∧ tg w r ≠ 3 ∧ tg w r ≠ 4) : ob w' r = ob w r := fr.2.2.2.2 r (W.le h2.1) (fun y => by
  have := h r y
  have := W.le h2.1
  omega)
theorem FUN.fr2 {T : List Nat} (h : FUN p w τ f) (W : WF p w) (fr : Fr T w w') (W' : WF p w') (hT : TkU p w T) (oF : ob w' (fnr w p f) = ob w (fnr w p f)) (K' : KR p w' σ) (hk : ∀ k, k < nK τ → kd w' p k = kd w p k) (hx : KX τ σ) (ef : fnr w' p f = fnr w p f) (e77 : tA σ 77 f = tA τ 77 f) (e78 : tA σ 78 f = tA τ 78 f) (e79 : tA σ 79 f = tA τ 79 f) (eN : ∀ g (i : Nat), 80 ≤ g → g ≤ 92 → 300 * f ≤ i → i < 300 * f + 121 → tA σ g i = tA τ g i) : FUN p w' σ f := by
  obtain ⟨A, lo, ps, ro, ru, lt, τ0, wy, h1, ⟨h2, h3⟩, h4, h5, h6, h7⟩ := h
  obtain ⟨⟨t1, t2, -⟩, -⟩ := id h1.1
  obtain ⟨g1, g2⟩ := h1.fr W fr W' (fun x hxx => by
    rcases hT x hxx with y | y | y | y
    · exact Or.inl y
    · exact Or.inr (Or.inl y)
    · exact Or.inr (Or.inr (Or.inl y))
    · exact Or.inr (Or.inr (Or.inr (Or.inr (Or.inl y))))) (fun g _ _ => ob.efI oF g) (fun g _ => ob.efR oF g) hx K' hk
  refine ⟨A, lo, ps, ro, ru, lt, τ0, wy, ?_, ⟨?_, h3⟩, ?_, h5, h6.trans hx, ?_⟩
  · rw [ef, x_rk hx]; exact g1
  · rw [ef, x_rk hx]
    exact h2.fr W fr (fun x hxx => by
      rcases hT x hxx with y | y | y | y
      · left; omega
      · exact Or.inr (Or.inl y)
      · exact Or.inr (Or.inr (Or.inl y))
      · exact Or.inr (Or.inr (Or.inr (Or.inl y)))) (fun g _ => ob.efI oF g) (ob.efR oF 52) g2 (fun k hkk => hk k (Nat.lt_of_lt_of_le hkk h6.2.1))
  · rw [x_rk hx]
    exact h4.fr e77 e78 e79 eN
  · rw [x_rk hx]; exact h7
theorem FUN.fr {T : List Nat} (h : FUN p w τ f) (W : WF p w) (fr : Fr T w w') (W' : WF p w') (hT : TkT p w T) (K' : KR p w' σ) (hk : ∀ k, k < nK τ → kd w' p k = kd w p k) (hx : KX τ σ) (ef : fnr w' p f = fnr w p f) (e77 : tA σ 77 f = tA τ 77 f) (e78 : tA σ 78 f = tA τ 78 f) (e79 : tA σ 79 f = tA τ 79 f) (eN : ∀ g (i : Nat), 80 ≤ g → g ≤ 92 → 300 * f ≤ i → i < 300 * f + 121 → tA σ g i = tA τ g i) : FUN p w' σ f := by
  obtain ⟨A, lo, ps, ro, ru, lt, τ0, wy, h1, ⟨h2, h3⟩, h4, h5, h6, h7⟩ := h
  obtain ⟨⟨t1, t2, -⟩, -⟩ := id h1.1
  have oF := hT.o W fr (r := fnr w p f) t2 (by rw [t1]; decide)
  obtain ⟨g1, g2⟩ := h1.fr W fr W' (fun x hxx => by
    rcases hT x hxx with y | y | y
    · exact Or.inl y
    · exact Or.inr (Or.inl y)
    · exact Or.inr (Or.inr (Or.inl y))) (fun g _ _ => ob.efI oF g) (fun g _ => ob.efR oF g) hx K' hk
  refine ⟨A, lo, ps, ro, ru, lt, τ0, wy, ?_, ⟨?_, h3⟩, ?_, h5, h6.trans hx, ?_⟩
  · rw [ef, x_rk hx]; exact g1
  · rw [ef, x_rk hx]
    exact h2.fr W fr (fun x hxx => by
      rcases hT x hxx with y | y | y
      · left; omega
      · exact Or.inr (Or.inl y)
      · exact Or.inr (Or.inr (Or.inl y))) (fun g _ => ob.efI oF g) (ob.efR oF 52) g2 (fun k hkk => hk k (Nat.lt_of_lt_of_le hkk h6.2.1))
  · rw [x_rk hx]
    exact h4.fr e77 e78 e79 eN
  · rw [x_rk hx]; exact h7
theorem x_fit (hx : KX τ σ) (hU : UnT τ) {s t : Int} (hs : s < 3 + nK τ) (h : fit τ s t) : fit σ s t := by
  rcases h with q | ⟨q1, q2, q3⟩
  · exact Or.inl q
  · refine Or.inr ⟨q1, q2, ?_⟩
    obtain ⟨k, hk⟩ : ∃ k : Nat, s - 3 = k := ⟨(s - 3).toNat, by omega⟩
    rw [hk] at q3 ⊢
    exact (x_ofT hx hU k (by omega) _).mpr q3
theorem x_hdS (hx : KX τ σ) (R k : Nat) : hdS σ R k = hdS τ R k := by
  unfold hdS
  rw [hx.a (g := 30) (by decide) (by decide), hx.a (g := 59) (by decide) (by decide)]
theorem CL2.fr {i : Nat} {T : List Nat} (h : CL2 p w τ f i) (hf : f < nF τ) (hi : i < rk τ f) (hF : ∀ f, f < nF τ → FUN p w τ f) (W : WF p w) (K : KR p w τ) (fr : Fr T w w') (hT : TkU p w T) (e47 : ∀ f, f < nF τ → fR w' 47 (fnr w p f) = fR w 47 (fnr w p f)) (hx : KX τ σ) (ef : ∀ f, fnr w' p f = fnr w p f) : CL2 p w' σ f i := by
  obtain ⟨h1, h2⟩ := h
  obtain ⟨A, lo, ps, ro, ru, lt, τ0, wy, g1, -⟩ := hF f hf
  obtain ⟨⟨t1, t2, -⟩, -, ⟨c1, c2, c3⟩, -⟩ := id g1.1
  have o2 := hT.o W fr (r := fnr w p f + 2) (by omega) (by rw [c2]; decide)
  have er : rl w' p f i = rl w p f i := by
    unfold rl
    rw [ef, e47 f hf, c1, ob.eaR o2]
  obtain ⟨_, _, r⟩ := g1.rus hi
  have r5 := r.ob56
  have rlx : ru (16 * f + i) = rl w p f i := by
    unfold rl
    rw [c1]
    exact g1.2.2.2.2.2.2.1.1 i hi
  rw [rlx] at r5
  have ox := hT.o W fr (r := rl w p f i) r5.2.1 (by rw [r5.1]; decide)
  refine ⟨fun z => ?_, fun z k hk h3 => ?_⟩
  · rw [hx.a (by decide) (by decide)] at z
    obtain ⟨g, m, a1, a2, a3, a4, a5, a6⟩ := h1 z
    obtain ⟨_, _, _, _, _, _, _, _, G1, -⟩ := hF g a2
    obtain ⟨m', q1, -⟩ := G1.2.1
    refine ⟨g, m, by rw [hx.a (by decide) (by decide)]; exact a1, by rw [x_nF hx]; exact a2, by rw [er, ob.efR ox, ef]; exact a3, by rw [hx.a (by decide) (by decide)]; exact a4, by rw [hx.a (by decide) (by decide)]; exact a5, fun k hk => ?_⟩
    rw [x_hdS hx, hx.a (g := 44) (by decide) (by decide)]
    have m3 : m ≤ 3 := by have := q1.1; have := q1.2.2.1; omega
    exact x_fit hx K.un (h2 z k (by omega) (by omega)).2 (a6 k hk)
  · rw [hx.a (by decide) (by decide)] at z hk
    rw [x_hdS hx]
    have := h2 z k hk h3
    have := hx.2.1
    omega
theorem TXB.fr {T : List Nat} (h : TXB p w τ) (W : WF p w) (fr : Fr T w w') (W' : WF p w') (hT : TkT p w T) (K' : KR p w' σ) (hk : ∀ k, k < nK τ → kd w' p k = kd w p k) (hx : KX τ σ) (eR : ∀ g, g = 5 ∨ g = 15 ∨ g = 16 → fR w' g p = fR w g p) (e5 : ∀ i : Nat, aR w' (fR w 5 p) i = aR w (fR w 5 p) i) (e6 : fI w' 6 p = fI w 6 p) (eT : ∀ f, f < nF τ → tA σ 77 f = tA τ 77 f ∧ tA σ 78 f = tA τ 78 f ∧ tA σ 79 f = tA τ 79 f ∧ ∀ g (i : Nat), 80 ≤ g → g ≤ 92 → 300 * f ≤ i → i < 300 * f + 121 → tA σ g i = tA τ g i) : TXB p w' σ := by
  obtain ⟨⟨a1, ⟨k1, k2, k3, k4⟩, k5, k6, k7, k8⟩, ⟨⟨b1, b2, b3, b4⟩, b5, b6, b7, b8⟩, c1, c2, c3⟩ := h
  have t : ∀ r, tg w r ≠ 0 → tg w' r = tg w r ∧ ln w' r = ln w r := fun r hr => fr.2.2.2.1 r (W.le hr)
  have t5 := t _ (show tg w (fR w 5 p) ≠ 0 by rw [b1]; decide)
  have t15 := t _ (show tg w (fR w 15 p) ≠ 0 by rw [show tg w (fR w 15 p) = 103 from k1]; decide)
  have t16 := t _ (show tg w (fR w 16 p) ≠ 0 by rw [show tg w (fR w 16 p) = 102 from k5]; decide)
  have ef : ∀ f, fnr w' p f = fnr w p f := fun f => by
    unfold fnr
    rw [eR 5 (by decide)]
    exact e5 f
  refine ⟨⟨K', ?_⟩, ⟨?_, by rw [e6, x_nF hx]; exact b5, by rw [(hx.1 41 (by decide) (by decide)).1, x_nF hx]; exact b6, by rw [x_nF hx]; exact b7, by rw [x_np hx.pq]; exact b8⟩, fun f hf => ?_, fun f i hf hi => ?_, fun f hf => ?_⟩
  · unfold NA
    rw [eR 15 (by decide), eR 16 (by decide)]
    exact ⟨⟨t15.1.trans k1, t15.2.trans k2, k3, k4⟩, t16.1.trans k5, t16.2.trans k6, k7, k8⟩
  · unfold FA
    rw [eR 5 (by decide)]
    exact ⟨t5.1.trans b1, t5.2.trans b2, b3, b4⟩
  · rw [x_nF hx] at hf
    obtain ⟨q1, q2, q3, q4⟩ := eT f hf
    exact (c1 f hf).fr W fr W' hT K' hk hx (ef f) q1 q2 q3 q4
  · rw [x_nF hx] at hf
    rw [x_rk hx] at hi
    exact (c2 f i hf hi).fr hf hi c1 W a1 fr hT.u (fun f hf => by
      obtain ⟨_, _, _, _, _, _, _, _, g1, -⟩ := c1 f hf
      obtain ⟨⟨t1, t2, -⟩, -⟩ := id g1.1
      exact ob.efR (hT.o W fr (r := fnr w p f) t2 (by rw [t1]; decide)) 47) hx ef
  · rw [x_nF hx] at hf
    rw [x_rk hx, x_sumR hx, hx.a (by decide) (by decide)]
    exact c3 f hf
/-- functions lie apart -/
theorem TXB.inj (h : TXB p w τ) {f g : Nat} (hf : f < nF τ) (hg : g < nF τ) (e : fnr w p f = fnr w p g) : f = g := by
  obtain ⟨-, -, c1, -⟩ := h
  obtain ⟨_, _, _, _, _, _, _, _, a1, -⟩ := c1 f hf
  obtain ⟨_, _, _, _, _, _, _, _, b1, -⟩ := c1 g hg
  have x := a1.1.1.2.2.1
  have y := b1.1.1.2.2.1
  rw [e] at x
  omega
/-- rows and trees of all functions stand -/
theorem TXB.mk {S : Nat → Nat} (hS : SET p w0 τ) (hnp : np τ ≤ 800) (hC : CLs p w0 w τ S (nF τ)) (hP : ∀ f, f < nF τ → FPS τ f (rk τ f)) {S' : List Nat} (F : FT S' τ σ) (hS' : ∀ g, g ∈ S' → g < 10 ∨ 60 < g) (hT : ∀ f, f < nF τ → TRT τ σ f (rk τ f) 0) : TXB p w σ := by
  obtain ⟨⟨W0, -⟩, K0, NA0, N0, C0, J0⟩ := hS
  obtain ⟨⟨T, cT, c1⟩, ⟨c2, c3, c4⟩, c5, -⟩ := hC
  have hx : KX τ σ := KX.ft F (fun g hg => by have := hS' g hg; omega)
  have F0 : ∀ f, f < nF τ → tg w0 (fnr w0 p f) = 4 ∧ tg w0 (fnr w0 p f + 3) = 115 ∧ p + 8 < fnr w0 p f := fun f hf => by
    obtain ⟨_, _, m, k, ⟨⟨t1, t2, t3, t4, t5⟩, -, -, ⟨d1, d2, d3⟩⟩, -⟩ := N0.fl hf
    exact ⟨t1, d2, t2⟩
  have tT : ∀ x, x ∈ T → (tg w0 x = 4 ∨ tg w0 x = 115) ∧ p + 8 < x := fun x hx => by
    obtain ⟨f, f1, f2 | f2⟩ := cT x hx
    · rw [f2]; exact ⟨Or.inl (F0 f f1).1, (F0 f f1).2.2⟩
    · rw [f2]; exact ⟨Or.inr (F0 f f1).2.1, by have := (F0 f f1).2.2; omega⟩
  have ef : ∀ f, fnr w p f = fnr w0 p f := fnr_of N0.1 W0 c1 c2 (fun x hx => by have := tT x hx; omega)
  have FA1 := N0.1.of W0 c1 c2
  have K' : KR p w σ := KR.fr (T := []) (S := []) (S' := S') c3 c4 (Fr.refl _ _) (PF.refl _ _ _) (fun r hr => by cases hr) (by simp) (by simp) F (fun g hg => by have := hS' g hg; omega)
  have hT0 : TkT p w [] := fun x hx => by cases hx
  have hFUN : ∀ f, f < nF τ → FUN p w τ f ∨ True := fun f hf => Or.inr trivial
  have hLA : ∀ f, f < nF τ → ∃ A lo ps ro ru lt, LAID p w τ f (fnr w p f) (rk τ f) A lo ps ro ru ∧ cz w0 ≤ lo ∧ TRC p w τ f (fnr w p f) (rk τ f) ps ro 0 lt ∧ cz w0 ≤ lt := fun f hf => by
    obtain ⟨A, lo, ps, ro, ru, lt, h1, h2, h3, h4, h5⟩ := c5 f hf
    rw [← ef] at h1 h3
    exact ⟨A, lo, ps, ro, ru, lt, h1, h2, h3, h4⟩
  have p8 := K0.ar.2.2.2
  refine ⟨⟨K', ?_⟩, ⟨FA1, by rw [(c2 6 (by simp)).1, x_nF hx]; exact N0.2.1, by rw [(hx.1 41 (by decide) (by decide)).1, x_nF hx]; exact N0.2.2.1, by rw [x_nF hx]; exact N0.2.2.2.1, by rw [x_np hx.pq]; exact hnp⟩, fun f hf => ?_, fun f i hf hi => ?_, fun f hf => ?_⟩
  · obtain ⟨⟨k1, k2, k3, k4⟩, k5, k6, k7, k8⟩ := NA0
    have t : ∀ r, tg w0 r ≠ 0 → tg w r = tg w0 r ∧ ln w r = ln w0 r := fun r hr => c1.2.2.2.1 r (W0.le hr)
    have t15 := t _ (show tg w0 (fR w0 15 p) ≠ 0 by rw [show tg w0 (fR w0 15 p) = 103 from k1]; decide)
    have t16 := t _ (show tg w0 (fR w0 16 p) ≠ 0 by rw [show tg w0 (fR w0 16 p) = 102 from k5]; decide)
    unfold NA
    rw [(c2 15 (by simp)).2, (c2 16 (by simp)).2]
    exact ⟨⟨t15.1.trans k1, t15.2.trans k2, k3, k4⟩, t16.1.trans k5, t16.2.trans k6, k7, k8⟩
  · rw [x_nF hx] at hf
    obtain ⟨A, lo, ps, ro, ru, lt, h1, h2, h3, h4⟩ := hLA f hf
    obtain ⟨p1, p2⟩ := hP f hf
    have L := (h1.fr c3 (Fr.refl _ _) c3 (T := []) (fun x hx => by cases hx) (fun _ _ _ => rfl) (fun _ _ => rfl) hx K' (fun _ _ => rfl)).1
    refine ⟨A, lo, ps, ro, ru, lt, τ, 0, by rw [x_rk hx]; exact L, ⟨by rw [x_rk hx]; exact h3, by omega⟩, by rw [x_rk hx]; exact hT f hf, by decide, hx, by rw [x_rk hx]; exact (p2 0).1, by rw [x_rk hx]; exact (p2 0).2⟩
  · rw [x_nF hx] at hf
    rw [x_rk hx] at hi
    have c := C0 f i hf hi
    obtain ⟨_, _, hr⟩ := (N0.gl hf).2.2.2.2.2.2 i hi
    have er : rl w p f i = rl w0 p f i ∧ fR w 66 (rl w0 p f i) = fR w0 66 (rl w0 p f i) := by
      obtain ⟨_, _, m, k, ⟨⟨t1, t2, t3, t4, t5⟩, -, ⟨e1, e2, e3⟩, -⟩, -⟩ := N0.fl hf
      obtain ⟨A, lo, ps, ro, ru, lt, h1, -⟩ := hLA f hf
      have e1' := h1.1.2.2.1.1
      rw [ef] at e1'
      have o2 := c1.2.2.2.2 (fnr w0 p f + 2) (W0.le (by rw [e2]; decide)) (fun y => by have := tT _ y; omega)
      have r5 := hr.ob56
      have ox := c1.2.2.2.2 (rl w0 p f i) (W0.le (by rw [r5.1]; decide)) (fun y => by have := tT _ y; omega)
      refine ⟨?_, ob.efR ox 66⟩
      unfold rl
      rw [ef, e1', e1, ob.eaR o2]
    have c' : CAL p w σ f i := fun z => by
      rw [hx.a (by decide) (by decide)] at z
      obtain ⟨g, m, a1, a2, a3, a4, a5, a6⟩ := c z
      refine ⟨g, m, by rw [hx.a (by decide) (by decide)]; exact a1, by rw [x_nF hx]; exact a2, by rw [er.1, er.2, ef]; exact a3, by rw [hx.a (by decide) (by decide)]; exact a4, by rw [hx.a (by decide) (by decide)]; exact a5, fun k hk => ?_⟩
      rw [x_hdS hx, hx.a (g := 44) (by decide) (by decide)]
      have s := (N0.scf K0 hf hr z).1
      obtain ⟨m', ⟨s1, s2, s3, s4⟩, s5⟩ := s.2
      obtain ⟨_, n, f2, f3, f4, f5, -⟩ := N0.fcf g a2
      obtain ⟨nn, n1, n2, n3, n4, n5, n6, n7⟩ := s5 k (by omega) (by omega)
      exact x_fit hx K0.un n7 (a6 k hk)
    refine ⟨c', fun z k hk h3 => ?_⟩
    rw [hx.a (by decide) (by decide)] at z hk
    rw [x_hdS hx]
    obtain ⟨m', ⟨s1, s2, s3, s4⟩, s5⟩ := (N0.scf K0 hf hr z).1.2
    obtain ⟨nn, n1, n2, n3, n4, n5, n6, n7⟩ := s5 k (by omega) h3
    have := hx.2.1
    omega
  · rw [x_nF hx] at hf
    rw [x_rk hx, x_sumR hx, hx.a (by decide) (by decide)]
    exact J0 f hf
end ZTxt
