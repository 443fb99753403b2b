/-! the calls: what holds goes on -/
section ZWrap2
variable {p b e d f F n : Nat} {w w' : CW} {τ σ : TW}
theorem STP.no (a : Int) (ha : 0 ≤ a) : STP w τ w τ a := ⟨⟨rfl, rfl⟩, by omega⟩
theorem ADV.inv (h : INV p w τ) (hA : ADV p w τ w' σ) : INV p w' σ ∧ STP w τ w' σ 50 := by
  obtain ⟨a1, a2, a3, a4, a5, a6, a7, a8⟩ := hA
  exact ⟨inv_val h a1 a2 a3 a4 a5 (by decide) a7 a8, ⟨a2.emu, a2.emz⟩, by rw [(a5 1 (by decide)).1]; omega⟩
theorem ADVL.inv (h : INV p w τ) (hA : ADVL p w τ w' σ) : INV p w' σ ∧ STP w τ w' σ 50 := by
  obtain ⟨a1, a2, a3, a4, a5, a6, a7, a8⟩ := hA
  exact ⟨inv_val h a1 a2 a3 a4 a5 (by decide) a7 a8, ⟨a2.emu, a2.emz⟩, by rw [(a5 1 (by decide)).1]; omega⟩
theorem ipi_feed {x n : Int} (h : INV p w τ) {K : Int → Int → CW → TW → Prop} (h1 : ∀ v w' τ', INV p w' τ' → STP w τ w' τ' 80000 → tI τ' 1 ≤ tI τ 1 + 8 → K v v w' τ') : wpC p (d + 251) 0 [ar p, al x, ai n] w (zqI (fun v w' => wpT (e + 12) 0 [al x, ai n] τ (zqI (fun v' τ' => K v v' w' τ') zno)) zno) := by
  obtain ⟨⟨W, L, p8⟩, ⟨T, R, h7, -⟩, -⟩ := id h
  refine api_feed (d := d + 249) (e := e + 10) W T R h7 (h1 _ _ _ h (STP.no _ (by decide)) (by omega)) (h1 _ _ _ h (STP.no _ (by decide)) (by omega)) (fun m hm m1 m8 hl => ?_)
  obtain ⟨i1, i2, i3, i4⟩ := inv_fd (x := x) m w τ h hl
  exact h1 _ _ _ i1 ⟨i2, by rw [i3, i4]; omega⟩ (by rw [i4]; omega)
theorem ipi_whole {x lim : Int} (h : INV p w τ) (hm : lim ≤ mu w ∧ lim ≤ 5 * mz w) (hlim : zm w + 100 ≤ lim) {K : Int → Int → CW → TW → Prop} (h1 : ∀ v w' τ', INV p w' τ' → STP w τ w' τ' 50 → K v v w' τ') : wpC p (d + 251) 57 [ar p, ai x] w (zqI (fun v w' => wpT (e + 12) 78 [ai x] τ (zqI (fun v' τ' => K v v' w' τ') zno)) zno) := by
  obtain ⟨⟨W, L, p8⟩, -, -, hV, hT, -⟩ := id h
  exact api_whole (d := d + 248) (e := e + 10) W hV.1 hT.kr.1 (by unfold zm at hlim; omega) (h1 _ _ _ h (STP.no _ (by decide))) (fun v w' τ' hA => h1 _ _ _ (hA.inv h).1 (hA.inv h).2)
theorem ipi_truth {x lim : Int} (h : INV p w τ) (hm : lim ≤ mu w ∧ lim ≤ 5 * mz w) (hlim : zm w + 100 ≤ lim) {K : Int → Int → CW → TW → Prop} (h1 : ∀ v w' τ', INV p w' τ' → STP w τ w' τ' 50 → K v v w' τ') : wpC p (d + 251) 59 [ar p, ai x] w (zqI (fun v w' => wpT (e + 12) 80 [ai x] τ (zqI (fun v' τ' => K v v' w' τ') zno)) zno) := by
  obtain ⟨⟨W, L, p8⟩, -, -, hV, hT, -⟩ := id h
  exact api_truth (d := d + 247) (e := e + 10) W hV.1 hT.kr.1 (by unfold zm at hlim; omega) (h1 _ _ _ h (STP.no _ (by decide))) (fun v w' τ' hA => h1 _ _ _ (hA.inv h).1 (hA.inv h).2)
theorem ipi_nothing {lim : Int} (h : INV p w τ) (hm : lim ≤ mu w ∧ lim ≤ 5 * mz w) (hlim : zm w + 100 ≤ lim) {K : Int → Int → CW → TW → Prop} (h1 : ∀ v w' τ', INV p w' τ' → STP w τ w' τ' 50 → K v v w' τ') : wpC p (d + 251) 61 [ar p] w (zqI (fun v w' => wpT (e + 12) 82 [] τ (zqI (fun v' τ' => K v v' w' τ') zno)) zno) := by
  obtain ⟨⟨W, L, p8⟩, -, -, hV, hT, -⟩ := id h
  exact api_nothing (d := d + 248) (e := e + 10) W hV.1 hT.kr.1 (by unfold zm at hlim; omega) (h1 _ _ _ h (STP.no _ (by decide))) (fun v w' τ' hA => h1 _ _ _ (hA.inv h).1 (hA.inv h).2)
theorem ipi_letters {x lim : Int} (hx : -9223372036854775808 ≤ x ∧ x < 9223372036854775808) (h : INV p w τ) (hm : lim ≤ mu w ∧ lim ≤ 5 * mz w) (hlim : zm w + 100 ≤ lim) {K : Int → Int → CW → TW → Prop} (h1 : ∀ v w' τ', INV p w' τ' → STP w τ w' τ' 50 → K v v w' τ') : wpC p (d + 251) 60 [ar p, al x] w (zqI (fun v w' => wpT (e + 12) 81 [al x] τ (zqI (fun v' τ' => K v v' w' τ') zno)) zno) := by
  obtain ⟨⟨W, L, p8⟩, -, -, hV, hT, -⟩ := id h
  exact api_letters (d := d + 248) (e := e + 9) hx W hV.1 hT.kr.1 (by unfold zm at hlim; omega) (h1 _ _ _ h (STP.no _ (by decide))) (h1 _ _ _ h (STP.no _ (by decide))) (fun v w' τ' hA => h1 _ _ _ (hA.inv h).1 (hA.inv h).2)
theorem ipi_make {x1 x2 x3 x4 x5 lim : Int} (h : INV p w τ) (hm : lim ≤ mu w ∧ lim ≤ 5 * mz w) (hlim : zm w + 100 ≤ lim) {K : Int → Int → CW → TW → Prop} (h1 : ∀ v w' τ', INV p w' τ' → STP w τ w' τ' 50 → K v v w' τ') : wpC p (d + 251) 62 [ar p, ai x1, ai x2, ai x3, ai x4, ai x5] w (zqI (fun v w' => wpT (e + 12) 83 [ai x1, ai x2, ai x3, ai x4, ai x5] τ (zqI (fun v' τ' => K v v' w' τ') zno)) zno) := by
  obtain ⟨⟨W, L, p8⟩, -, -, hV, hT, -⟩ := id h
  exact api_make (d := d + 247) (e := e + 9) W hV.1 hT.kr (by unfold zm at hlim; omega) (fun v w' τ' hA => h1 _ _ _ (hA.inv h).1 (hA.inv h).2)
theorem ipi_value {x y : Int} (h : INV p w τ) {K : Int → Int → CW → TW → Prop} (h1 : ∀ v : Int, K v v w τ) : wpC p (d + 251) 65 [ar p, ai x, ai y] w (zqI (fun v w' => wpT (e + 12) 86 [ai x, ai y] τ (zqI (fun v' τ' => K v v' w' τ') zno)) zno) := by
  obtain ⟨-, -, -, hV, hT, -⟩ := id h
  exact api_value (d := d + 248) (e := e + 9) hV.1 hT.kr h1
theorem ipi_kindNamed {x : Int} (h : INV p w τ) {K : Int → Int → CW → TW → Prop} (h1 : ∀ v : Int, K v v w τ) : wpC p (d + 251) 50 [ar p, al x] w (zqI (fun v w' => wpT (e + 12) 71 [al x] τ (zqI (fun v' τ' => K v v' w' τ') zno)) zno) := by
  obtain ⟨-, -, -, hV, hT, -⟩ := id h
  exact api_kindNamed (d := d + 249) (e := e + 10) hT.kr h1
theorem ipi_fault (h : INV p w τ) {K : Int → Int → CW → TW → Prop} (h1 : ∀ v : Int, K v v w τ) : wpC p (d + 251) 45 [ar p] w (zqI (fun v w' => wpT (e + 12) 64 [] τ (zqI (fun v' τ' => K v v' w' τ') zno)) zno) := by
  obtain ⟨-, -, ⟨h21, -⟩, -⟩ := id h
  exact api_fault (d := d + 250) (e := e + 11) h21 (h1 _)
theorem ipi_alike {x1 x2 : Int} (h : INV p w τ) {K : Int → Int → CW → TW → Prop} (h1 : ∀ v w' τ', INV p w' τ' → STP w τ w' τ' 0 → K v v w' τ') : wpC p (d + 251) 66 [ar p, ai x1, ai x2] w (zqI (fun v w' => wpT (e + 12) 87 [ai x1, ai x2] τ (zqI (fun v' τ' => K v v' w' τ') zno)) zno) := by
  obtain ⟨⟨W, L, p8⟩, hTP, -, hV, hT, -⟩ := id h
  refine api_alike (d := d + 86) (e := e + 9) W hV.1 hV.2 hT.kr (fun v τ' F => h1 _ _ _ ?_ ⟨⟨rfl, rfl⟩, by rw [(F 1 (by decide)).1]; omega⟩)
  have hA := hV.1.ar
  have l3 := W.le (r := fR w 3 p) (by rw [hA.1]; decide)
  have K0 := hT.kr
  have kx : KX τ τ' := KX.ft F (fun g hg => by simp at hg; omega)
  obtain ⟨r1, r2, r3⟩ := VAL.keep (w' := w) (σ := τ') hV W (fun _ _ _ _ => rfl) (fun _ _ => ⟨rfl, rfl⟩) ⟨rfl, rfl⟩ (fun _ => rfl) (fun g h1 h2 => F g (fun y => by simp at y; omega)) (kx.vk K0.un (fun k _ => rfl))
  exact inv_gen h (Fr.refl [p, fR w 3 p] w) W (Or.inr hA.1) hA.2.2 (PF.refl _ _ _) F (fun g hg => by simp at hg; omega) r1 ⟨Nat.le_of_eq r2, fun _ _ => rfl⟩ (hTP.fr ⟨rfl, rfl⟩ (fun _ => rfl) rfl rfl (F 1 (by decide)).1 (F 0 (by decide)).2)
end ZWrap2
