/-! read: rows are laid, trees are made: the component -/
section ZRdc
variable {p b e d f F n lo wy A : Nat} {w w' w0 : CW} {τ σ : TW} {ps : List Pa} {ro : Nat × Nat → Nat} {ru : Nat → Nat} {S : Nat → Nat}
/-- how large the tree of f is, by the first way -/
noncomputable def tz (τ : TW) (f : Nat) : Nat := tsz τ (rowsK τ f 0 (rk τ f)) 0 121 []
/-- f stands, laid, with its tree -/
def DON (p : Nat) (w0 w : CW) (τ : TW) (f : Nat) : Prop := ∃ A lo ps ro ru lt, LAID p w τ f (fnr w0 p f) (rk τ f) A lo ps ro ru ∧ cz w0 ≤ lo ∧ TRC p w τ f (fnr w0 p f) (rk τ f) ps ro 0 lt ∧ cz w0 ≤ lt ∧ tz τ f ≤ 120
/-- k functions are done -/
def CLs (p : Nat) (w0 w : CW) (τ : TW) (S : Nat → Nat) (k : Nat) : Prop := (∃ T, (∀ x, x ∈ T → ∃ f, f < nF τ ∧ (x = fnr w0 p f ∨ x = fnr w0 p f + 3)) ∧ Fr T w0 w) ∧ (PF [] p w0 w ∧ WF p w ∧ KR p w τ) ∧ (∀ f, f < k → DON p w0 w τ f) ∧ (∀ f, k ≤ f → f < nF τ → FL p w τ f (S f) (S (f + 1))) ∧ zm w ≤ zm w0 + 40000 * k + 500 * S k
theorem KR.ar (h : KR p w τ) : tg w (fR w 0 p) = 112 ∧ fR w 0 p ≤ p + 8 ∧ p < fR w 0 p ∧ p + 8 ≤ cz w := ⟨h.1.1, h.1.2.2.2.1, h.1.2.2.1, h.1.2.2.2.2⟩
theorem kd_of (K : KR p w τ) (W : WF p w) {T : List Nat} (fr : Fr T w w') (pf : PF [] p w w') (hT : ∀ x, x ∈ T → tg w x ≠ 112) (k : Nat) : kd w' p k = kd w p k := by
  obtain ⟨k1, -⟩ := K.ar
  have o := fr.2.2.2.2 (fR w 0 p) (W.le (by rw [k1]; decide)) (fun y => hT _ y k1)
  have e : fR w' 0 p = fR w 0 p := (pf 0 (by simp)).2
  show aR w' (fR w' 0 p) k = aR w (fR w 0 p) k
  rw [e, ob.eaR o]
theorem fnr_of (hA : FA p w) (W : WF p w) {T : List Nat} (fr : Fr T w w') (pf : PF [] p w w') (hT : ∀ x, x ∈ T → tg w x ≠ 111) (k : Nat) : fnr w' p k = fnr w p k := by
  have o := fr.2.2.2.2 (fR w 5 p) (W.le (by rw [hA.1]; decide)) (fun y => hT _ y hA.1)
  have e : fR w' 5 p = fR w 5 p := (pf 5 (by simp)).2
  show aR w' (fR w' 5 p) k = aR w (fR w 5 p) k
  rw [e, ob.eaR o]
theorem FA.of (hA : FA p w) (W : WF p w) {T : List Nat} (fr : Fr T w w') (pf : PF [] p w w') : FA p w' := by
  have e : fR w' 5 p = fR w 5 p := (pf 5 (by simp)).2
  have t := fr.2.2.2.1 (fR w 5 p) (W.le (by rw [hA.1]; decide))
  unfold FA
  rw [e, t.1, t.2]
  exact hA
/-- what is done stays while another one is done -/
theorem DON.fr {T : List Nat} {k : Nat} (h : DON p w0 w τ f) (W : WF p w) (fr : Fr T w w') (pf : PF [] p w w') (W' : WF p w') (K' : KR p w' τ) (hT : ∀ x, x ∈ T → x = fnr w0 p k ∨ x = fnr w0 p k + 3) (tk : tg w (fnr w0 p k) = 4 ∧ tg w (fnr w0 p k + 3) = 115 ∧ fI w 43 (fnr w0 p k) = k) (hk : fnr w0 p k + 3 ≤ cz w0) (hfk : f ≠ k) : DON p w0 w' τ f := by
  obtain ⟨A, lo, ps, ro, ru, lt, h1, h2, h3, h4, h5⟩ := h
  obtain ⟨⟨⟨t1, t2, t3, t4, t5⟩, -⟩, -⟩ := id h1
  have K := h1.2.2.2.2.2.1.1.2.1
  have ne : fnr w0 p f ≠ fnr w0 p k := fun q => by rw [q, tk.2.2] at t3; omega
  have lF := W.le (r := fnr w0 p f) (by rw [t1]; decide)
  have oF := fr.2.2.2.2 _ lF (fun y => by
    rcases hT _ y with q | q
    · exact ne q
    · rw [q, tk.2.1] at t1; cases t1)
  have tgT : ∀ x, x ∈ T → tg w x = 4 ∨ tg w x = 115 := fun x hx => by
    rcases hT x hx with q | q
    · left; rw [q]; exact tk.1
    · right; rw [q]; exact tk.2.1
  have ek := kd_of K W fr pf (fun x hx => by have := tgT x hx; omega)
  obtain ⟨g1, g2⟩ := h1.fr W fr W' (fun x hx => by
    rcases hT x hx with q | q
    · exact Or.inr (Or.inr (Or.inr (Or.inr (Or.inl (by rw [q]; exact tk.1)))))
    · exact Or.inr (Or.inr (Or.inr (Or.inr (Or.inr ⟨by omega, by rw [q]; exact tk.2.1, by omega⟩))))) (fun g _ _ => ob.efI oF g) (fun g _ => ob.efR oF g) (KX.refl τ) K' (fun k _ => ek k)
  exact ⟨A, lo, ps, ro, ru, lt, g1, h2, h3.fr W fr (fun x hx => by
    left
    rcases hT x hx with q | q <;> omega) (fun g _ => ob.efI oF g) (ob.efR oF 52) g2 (fun k _ => ek k), h4, h5⟩
theorem FL.lays {k l h' : Nat} {T : List Nat} (h : FL p w τ f l h') (hf : fnr w p f = fnr w0 p f) (hf' : fnr w' p f = fnr w0 p f) (W : WF p w) (K : KR p w τ) (fr : Fr T w w') (pf : PF [] p w w') (hT : ∀ x, x ∈ T → x = fnr w0 p k ∨ x = fnr w0 p k + 3) (tk : tg w (fnr w0 p k) = 4 ∧ tg w (fnr w0 p k + 3) = 115 ∧ fI w 43 (fnr w0 p k) = k) (hfk : f ≠ k) : FL p w' τ f l h' := by
  have h0 := h
  obtain ⟨m, kk, ⟨⟨t1, t2, t3, t4, t5⟩, -⟩, -⟩ := h0
  have ne : fnr w0 p k ≠ fnr w p f := fun q => by rw [← q, tk.2.2] at t3; omega
  have tgT : ∀ x, x ∈ T → tg w x = 4 ∨ tg w x = 115 := fun x hx => by
    rcases hT x hx with q | q
    · left; rw [q]; exact tk.1
    · right; rw [q]; exact tk.2.1
  refine h.keep W fr (fun x hx => ?_) (hf'.trans hf.symm) K (fun k _ => kd_of K W fr pf (fun x hx => by have := tgT x hx; omega) k)
  rcases hT x hx with q | q
  · exact Or.inr (Or.inr (Or.inl ⟨by rw [q]; exact tk.1, by rw [q]; exact ne⟩))
  · exact Or.inr (Or.inr (Or.inr ⟨by rw [q]; exact tk.2.1, by rw [q]; omega⟩))
theorem rd_rows {lim : Int} (hS : SET p w0 τ) (hnp : np τ ≤ 800) (hm : lim ≤ mu w0 ∧ lim ≤ 5 * mz w0) (hlim : zm w0 + 40000 * nF τ + 500 * np τ + 100 ≤ lim) {Qf : Int → CW → Prop}
    (hQ : ∀ w' S, CLs p w0 w' τ S (nF τ) → S (nF τ) ≤ np τ → Qf (nF τ) (pI (pI w' 22 p 1) 8 p 0))
    (hX : ∀ w' k, k < nF τ → (∀ f, f < k → tz τ f ≤ 120) → 120 < tz τ k → (∃ T, (∀ x, x ∈ T → ∃ f, f < nF τ ∧ (x = fnr w0 p f ∨ x = fnr w0 p f + 3)) ∧ Fr T w0 w') → PF [] p w0 w' → WF p w' → zm w' ≤ zm w0 + 40000 * nF τ + 500 * np τ → Qf (-3) (pI (clW w' p) 8 p 0)) : pC_X0_read_84 p (wpC p (d + 250)) Qf 0 w0 := by
  obtain ⟨⟨W0, -⟩, K0, -, N0, -, J0⟩ := hS
  obtain ⟨A1, A2, A3, A4⟩ := N0.1
  have n6 := N0.2.1
  have n12 := N0.2.2.2.1
  obtain ⟨S, S1, S2⟩ := N0.2.2.2.2.1
  have Sm : ∀ j k, k + j ≤ nF τ → S k ≤ S (k + j) := by
    intro j
    induction j with
    | zero => intro k _; exact Nat.le_refl _
    | succ j ih =>
      intro k hk
      have q1 := ih k (by omega)
      have q2 := (S2 (k + j) (by omega)).1
      have : k + (j + 1) = (k + j) + 1 := by omega
      rw [this]
      omega
  have Sn : ∀ k, k ≤ nF τ → S k ≤ np τ := fun k hk => by
    have := Sm (nF τ - k) k (by omega)
    rw [show k + (nF τ - k) = nF τ by omega] at this
    omega
  have p8 := K0.ar.2.2.2
  have l5 := W0.le (r := fR w0 5 p) (by rw [A1]; decide)
  have F0 : ∀ f, f < nF τ → tg w0 (fnr w0 p f) = 4 ∧ tg w0 (fnr w0 p f + 3) = 115 ∧ fI w0 43 (fnr w0 p f) = f ∧ p + 8 < fnr w0 p f ∧ fnr w0 p f + 3 ≤ cz w0 := fun f hf => by
    obtain ⟨m, k, ⟨⟨t1, t2, t3, t4, t5⟩, -, -, ⟨d1, d2, d3⟩⟩, -⟩ := (S2 f hf).2
    exact ⟨t1, d2, t3, t2, W0.le (by rw [d2]; decide)⟩
  refine bC_X0_read_84 ?_
  intro I hI
  have key : ∀ t k, k + t = nF τ → ∀ w, CLs p w0 w τ S k → I (k : Nat) w := by
    intro t
    induction t with
    | zero =>
      intro k hk w h
      have hk : k = nF τ := by omega
      subst hk
      obtain ⟨c1, ⟨c2, c3, c4⟩, -⟩ := id h
      have e6 : fI w 6 p = nF τ := by rw [(c2 6 (by simp)).1]; exact n6
      refine hI _ _ (br1 (by rw [e6]; exact Int.le_refl _) (bC_X0_read_117 (call := wpC p (d + 250)) (fa (fa (bC_X0_read_162 (call := wpC p (d + 250)) (fa ?_))))))
      have : fI (pI w 22 p 1) 6 p = nF τ := by rw [fI_of _ _ _ _ (by decide)]; exact e6
      rw [this]
      exact hQ w S h (Sn _ (Nat.le_refl _))
    | succ t ih =>
      intro k hk w h
      have hkn : k < nF τ := by omega
      obtain ⟨⟨T, cT, c1⟩, ⟨c2, c3, c4⟩, c5, c6, c7⟩ := id h
      have e6 : fI w 6 p = nF τ := by rw [(c2 6 (by simp)).1]; exact n6
      have tT : ∀ x, x ∈ T → tg w0 x = 4 ∨ tg w0 x = 115 := fun x hx => by
        obtain ⟨f, f1, f2 | f2⟩ := cT x hx
        · left; rw [f2]; exact (F0 f f1).1
        · right; rw [f2]; exact (F0 f f1).2.1
      have ef : ∀ f, fnr w p f = fnr w0 p f := fnr_of N0.1 W0 c1 c2 (fun x hx => by have := tT x hx; omega)
      obtain ⟨F, hF⟩ : ∃ F, F = fnr w0 p k := ⟨_, rfl⟩
      have hFw : F = fnr w p k := by rw [hF, ef]
      have FA1 := N0.1.of W0 c1 c2
      have f0 := F0 k hkn
      rw [← hF] at f0
      have hFL := c6 k (Nat.le_refl _) hkn
      have hj := judged_rows N0 hkn (J0 k hkn).2
      obtain ⟨n, hn⟩ : ∃ n, n = rk τ k := ⟨_, rfl⟩
      rw [← hn] at hj
      have e45 : tA τ 45 k = n := by rw [hn]; exact (N0.gl hkn).2.2.1
      have ext : S k + wsF τ k n ≤ S (k + 1) := by
        obtain ⟨m, kk, -, -, -, q, -⟩ := id hFL
        have e1 := q.1
        have : kk = n := by omega
        rw [this] at q
        exact q.ext c4 hj.1
      have Sk1 := Sn (k + 1) (by omega)
      have tw : tg w F = 4 ∧ tg w (F + 3) = 115 ∧ fI w 43 F = k := by
        obtain ⟨m, kk, ⟨⟨t1, t2, t3, t4, t5⟩, -, -, ⟨d1, d2, d3⟩⟩, -⟩ := id hFL
        rw [← hFw] at t1 t3 d2
        exact ⟨t1, d2, t3⟩
      have hmw : lim ≤ mu w ∧ lim ≤ 5 * mz w := by rw [c1.emu, c1.emz]; exact hm
      have e5 : aR w (fR w 5 p) (k : Nat) = F := hFw.symm
      refine hI _ _ (br0 (by rw [e6]; omega) ⟨⟨by rw [FA1.1]; decide, by omega, by rw [FA1.2.1]; omega⟩, by rw [e5]; exact tw.1, ?_⟩)
      rw [e5]
      refine sC_laid (d := d + 210) (n := n) (l := S k) (h' := S (k + 1)) hFw hFL c3 c4 hj e45 hnp (by omega) ⟨ext, Sk1⟩ (Nat.le_trans p8 c1.1) hmw (by omega) (fun w1 A ps ro ru L1 psl f1 p1 W1 z1 => ?_)
      have K1 := L1.2.2.2.2.2.1.1.2.1
      have hT1 : ∀ x, x ∈ [F, F + 3] → x = fnr w0 p k ∨ x = fnr w0 p k + 3 := fun x hx => by
        rw [← hF]
        rcases List.mem_cons.mp hx with q | q
        · exact Or.inl q
        · exact Or.inr (List.mem_singleton.mp q)
      have tk : tg w (fnr w0 p k) = 4 ∧ tg w (fnr w0 p k + 3) = 115 ∧ fI w 43 (fnr w0 p k) = k := by rw [← hF]; exact tw
      have ef1 : ∀ f, fnr w1 p f = fnr w0 p f := fun f => (fnr_of FA1 c3 f1 p1 (fun x hx => by
        rcases hT1 x hx with q | q <;> rw [q]
        · rw [tk.1]; decide
        · rw [tk.2.1]; decide) f).trans (ef f)
      have D1 : ∀ f, f < k → DON p w0 w1 τ f := fun f hf => (c5 f hf).fr c3 f1 p1 W1 K1 hT1 tk (F0 k hkn).2.2.2.2 (by omega)
      have G1 : ∀ f, k + 1 ≤ f → f < nF τ → FL p w1 τ f (S f) (S (f + 1)) := fun f h1 h2 => (c6 f (by omega) h2).lays (ef f) (ef1 f) c3 c4 f1 p1 hT1 tk (by omega)
      have FA2 := FA1.of c3 f1 p1
      have t1 : tg w1 F = 4 ∧ tg w1 (F + 3) = 115 ∧ fI w1 43 F = k := ⟨L1.1.1.1, L1.1.2.2.2.2.1, L1.1.1.2.2.1⟩
      have e51 : aR w1 (fR w1 5 p) (k : Nat) = F := (ef1 k).trans hF.symm
      refine ⟨⟨by rw [FA2.1]; decide, by omega, by rw [FA2.2.1]; omega⟩, by rw [e51]; exact t1.1, ?_⟩
      rw [e51]
      have hm1 : lim ≤ mu w1 ∧ lim ≤ 5 * mz w1 := by rw [f1.emu, f1.emz]; exact hmw
      have emz1 : zm w1 + 34000 ≤ lim := by omega
      have TT0 : ∀ x, x ∈ [F, F + 3] → ∃ f, f < nF τ ∧ (x = fnr w0 p f ∨ x = fnr w0 p f + 3) := fun x hx => ⟨k, hkn, hT1 x hx⟩
      have C1 : Fr (T ++ [F, F + 3]) w0 w1 := (c1.mono (fun q hq => Or.inl (List.mem_append_left _ hq))).trans (f1.mono (fun q hq => Or.inl (List.mem_append_right _ hq)))
      have CT1 : ∀ x, x ∈ T ++ [F, F + 3] → ∃ f, f < nF τ ∧ (x = fnr w0 p f ∨ x = fnr w0 p f + 3) := fun x hx => by
        rcases List.mem_append.mp hx with q | q
        · exact cT x q
        · exact TT0 x q
      have hz1 := W1.pz
      refine sC_remake (d := d) (wy := 0) L1 W1 (by decide) hm1 emz1 (fun w2 hle f2 W2 p2 i2 r2 C2 z2 => ?_) (fun x w2 hgt f2 W2 t2 z2 => ?_)
      · refine fa ?_
        rw [w32_s (by omega) (by omega)]
        have hT2 : ∀ x, x ∈ [F] → x = fnr w0 p k ∨ x = fnr w0 p k + 3 := fun x hx => by rw [← hF]; exact Or.inl (List.mem_singleton.mp hx)
        have tk1 : tg w1 (fnr w0 p k) = 4 ∧ tg w1 (fnr w0 p k + 3) = 115 ∧ fI w1 43 (fnr w0 p k) = k := by rw [← hF]; exact t1
        have ek2 := kd_of K1 W1 f2 p2 (fun x hx => by rw [List.mem_singleton.mp hx, t1.1]; decide)
        have ef2 : ∀ f, fnr w2 p f = fnr w0 p f := fun f => (fnr_of FA2 W1 f2 p2 (fun x hx => by rw [List.mem_singleton.mp hx, t1.1]; decide) f).trans (ef1 f)
        have K2 : KR p w2 τ := by
          have hB : BS p (cz w1) w1 τ F := ⟨W1, rfl, K1, ⟨t1.1, by omega⟩, by rw [L1.1.2.2.2.1]; exact t1.2.1, by rw [L1.1.2.2.2.1]; omega⟩
          exact (hB.kr (w := w2) (f2.mono (fun q hq => Or.inl (by rw [List.mem_singleton.mp hq]; simp))) p2).1
        obtain ⟨L2, -⟩ := L1.fr W1 f2 W2 (fun x hx => Or.inr (Or.inr (Or.inr (Or.inl (List.mem_singleton.mp hx))))) i2 r2 (KX.refl τ) K2 (fun k _ => ek2 k)
        have := ih (k + 1) (by omega) w2 ⟨⟨T ++ [F, F + 3], CT1, C1.trans (f2.mono (fun q hq => Or.inl (List.mem_append_right _ (by rw [List.mem_singleton.mp hq]; simp))))⟩, ⟨c2.trans (p1.trans p2), W2, K2⟩, fun f hf => ?_, fun f h1 h2 => (G1 f h1 h2).lays (ef1 f) (ef2 f) W1 K1 f2 p2 hT2 tk1 (by omega), by omega⟩
        · exact this
        · by_cases q : f = k
          · subst q
            rw [hF] at L2 C2
            rw [hn] at L2 C2 hle
            exact ⟨A, cz w, ps, ro, ru, cz w1, L2, c1.1, C2, C1.1, hle⟩
          · exact (D1 f (by omega)).fr W1 f2 p2 W2 K2 hT2 tk1 (F0 k hkn).2.2.2.2 q
      · have K2 := ((L1.2.2.2.2.2.1).fr f2 W2).1.1.2.1
        have FA3 := FA2.of W1 f2 (PF.of f2 hz1 (by simp))
        have p2 : PF [] p w1 w2 := PF.of f2 hz1 (by simp)
        have := rc_full (d := d + 249) (Qf := Qf) W2 K2.1 FA3 t2 (hX w2 k hkn (fun f hf => ?_) (by rw [hn] at hgt; exact hgt) ⟨T ++ [F, F + 3], CT1, C1.trans (f2.mono (fun q hq => by cases hq))⟩ (c2.trans (p1.trans p2)) W2 (by omega))
        · exact this
        · obtain ⟨_, _, _, _, _, _, -, -, -, -, q⟩ := c5 f hf
          exact q
  have := key (nF τ) 0 (by omega) w0 ⟨⟨[], fun x hx => (by cases hx), Fr.refl _ _⟩, ⟨PF.refl _ _ _, W0, K0⟩, fun f hf => by omega, fun f _ hf => (S2 f hf).2, by omega⟩
  exact this
end ZRdc
