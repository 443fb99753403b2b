/-! values, the tape: what holds between calls goes on -/
section ZWrap
variable {p b e d f F n : Nat} {w w' : CW} {τ σ : TW}
theorem inv_gen {r0 : Nat} {S : List Nat} (h : INV p w τ) (fr : Fr [p, r0] w w') (W' : WF p w') (t0 : tg w r0 = 101 ∨ tg w r0 = 119) (h0 : p < r0 ∧ r0 ≤ p + 8) (pf : PF [4, 8] p w w') (F : FT S τ σ) (hS : ∀ g, g ∈ S → g < 2 ∨ (109 ≤ g ∧ g ≤ 118)) (hV' : VAL p w' σ ∧ VT σ) (hv : VSm p w τ w' σ) (hTP' : TPE p w' σ) : INV p w' σ := by
  obtain ⟨⟨W, L, p8⟩, hTP, ⟨hf1, hf2⟩, hV, hT, hR⟩ := id h
  have hz := W.pz
  have F8 : ∀ g, 2 ≤ g → g < 109 ∨ 118 < g → tI σ g = tI τ g ∧ ∀ i, tA σ g i = tA τ g i := fun g h1 h2 => F g (fun y => by have := hS g y; omega)
  have t : ∀ r, tg w r ≠ 0 → tg w' r = tg w r ∧ ln w' r = ln w r := fun r hr => fr.2.2.2.1 r (W.le hr)
  have o : ∀ r, tg w r ≠ 0 → tg w r ≠ 101 → tg w r ≠ 119 → r ≠ p → ob w' r = ob w r := fun r h1 h2 h3 h4 => fr.2.2.2.2 r (W.le h1) (fun y => by
    rcases List.mem_cons.mp y with z | z
    · exact h4 z
    · rw [List.mem_singleton.mp z] at h2 h3; omega)
  have KK := hT.kr
  have hkA : tg w (fR w 0 p) = 112 := KK.1.1
  have pk : p < fR w 0 p := KK.1.2.2.1
  have kx : KX τ σ := KX.ft (S := S.filter (fun g => decide (g < 10 ∨ g = 11 ∨ 60 < g))) (fun g hg => F g (fun y => hg (List.mem_filter.mpr ⟨y, by have := hS g y; simp; omega⟩))) (fun g hg => by have := (List.mem_filter.mp hg).2; simpa using this)
  have K' : KR p w' σ := KR.fr2 W KK fr ⟨(pf 0 (by decide)).2, (pf 1 (by decide)).1⟩ (fun r hr => Or.inl (by
    rcases List.mem_cons.mp hr with z | z
    · exact ⟨by omega, by omega⟩
    · rw [List.mem_singleton.mp z]
      exact ⟨h0.2, fun q => by rw [q, hkA] at t0; omega⟩)) F (fun g hg => by have := hS g hg; omega)
  have hk : ∀ u, kd w' p u = kd w p u := fun u => by
    unfold kd
    rw [show fR w' 0 p = fR w 0 p from (pf 0 (by decide)).2]
    exact ob.eaR (o (fR w 0 p) (by rw [hkA]; decide) (by rw [hkA]; decide) (by rw [hkA]; decide) (by omega)) u
  obtain ⟨⟨c1, c2, c3, c4⟩, ⟨d1, d2, d3, d4⟩, -⟩ := id hR
  have o23 := o (fR w 23 p) (by rw [c1]; decide) (by rw [c1]; decide) (by rw [c1]; decide) (by omega)
  have o24 := o (fR w 24 p) (by rw [d1]; decide) (by rw [d1]; decide) (by rw [d1]; decide) (by omega)
  refine ⟨⟨W', L.fr3 W fr (fun x hx => ?_), Nat.le_trans p8 fr.1⟩, hTP', ⟨by rw [(pf 21 (by decide)).1, (F8 7 (by decide) (by decide)).1]; exact hf1, by rw [(pf 2 (by decide)).1, (F8 11 (by decide) (by decide)).1]; exact hf2⟩, hV', ?_, ?_⟩
  · rcases List.mem_cons.mp hx with y | y
    · omega
    · rw [List.mem_singleton.mp y]; omega
  · rcases hT with ⟨⟨n1, n2⟩, ⟨⟨k1, k2, k3, k4, k5⟩, n3, n4⟩, ⟨⟨f1, f2, f3, f4⟩, n5, n6⟩, ⟨⟨a1, a2, a3, a4⟩, a5, a6, a7, a8⟩, n7⟩ | ⟨h22, B⟩
    · have k1' : tg w (fR w 0 p) = 112 := k1
      have t5 := t (fR w 5 p) (by rw [f1]; decide)
      have t15 := t (fR w 15 p) (by rw [show tg w (fR w 15 p) = 103 from a1]; decide)
      have t16 := t (fR w 16 p) (by rw [show tg w (fR w 16 p) = 102 from a5]; decide)
      have t0' := t (fR w 0 p) (by rw [k1']; decide)
      refine Or.inl ⟨⟨by rw [(pf 22 (by decide)).1]; exact n1, by rw [(F8 9 (by decide) (by decide)).1]; exact n2⟩, ⟨?_, by rw [(pf 1 (by decide)).1]; exact n3, by rw [(F8 10 (by decide) (by decide)).1]; exact n4⟩, ⟨?_, by rw [(pf 6 (by decide)).1]; exact n5, by rw [(F8 41 (by decide) (by decide)).1]; exact n6⟩, ?_, by rw [(F8 11 (by decide) (by decide)).1]; exact n7⟩
      · unfold KA
        rw [show fR w' 0 p = fR w 0 p from (pf 0 (by decide)).2]
        exact ⟨t0'.1.trans k1, t0'.2.trans k2, k3, k4, Nat.le_trans k5 fr.1⟩
      · unfold FA
        rw [(pf 5 (by decide)).2]
        exact ⟨t5.1.trans f1, t5.2.trans f2, f3, f4⟩
      · unfold NA
        rw [(pf 15 (by decide)).2, (pf 16 (by decide)).2]
        exact ⟨⟨t15.1.trans a1, t15.2.trans a2, a3, a4⟩, t16.1.trans a5, t16.2.trans a6, a7, a8⟩
    · obtain ⟨-, ⟨⟨b1, b2, b3, b4⟩, -⟩, -⟩ := id B
      have o5 := o (fR w 5 p) (by rw [b1]; decide) (by rw [b1]; decide) (by rw [b1]; decide) (by omega)
      refine Or.inr ⟨⟨by rw [(pf 22 (by decide)).1]; exact h22.1, by rw [(F8 9 (by decide) (by decide)).1]; exact h22.2⟩, B.fr W fr W' (fun x hx => ?_) K' (fun k _ => hk k) kx (fun g hg => (pf g (by rcases hg with q | q | q <;> rw [q] <;> decide)).2) (fun i => ob.eaR o5 i) (pf 6 (by decide)).1 (fun f _ => ⟨(F8 77 (by decide) (by decide)).2 _, (F8 78 (by decide) (by decide)).2 _, (F8 79 (by decide) (by decide)).2 _, fun g i h1 h2 _ _ => (F8 g (by omega) (by omega)).2 _⟩)⟩
      rcases List.mem_cons.mp hx with y | y
      · left; omega
      · left; rw [List.mem_singleton.mp y]; exact h0.2
  · refine hR.fr t (fun g hg => (pf g (by rcases hg with q | q | q | q <;> rw [q] <;> decide)).2) (fun i => ob.eaI o23 i) (fun i => ob.eaI o24 i) (fun q1 q2 i => ?_) hv (fun g hg => F8 g (by omega) (by omega))
    exact ob.eaR (fr.2.2.2.2 (fR w 26 p) (W.le (by rw [q1]; decide)) (fun y => by
      rcases List.mem_cons.mp y with z | z
      · omega
      · have := List.mem_singleton.mp z; omega)) i
/-- a value more -/
theorem inv_val {S : List Nat} (h : INV p w τ) (hV' : VAL p w' σ) (fr : Fr [p, fR w 3 p] w w') (pf : PF [4] p w w') (W' : WF p w') (F : FT S τ σ) (hS : ∀ g, g ∈ S → 109 ≤ g ∧ g ≤ 118) (hT : VT τ → VT σ) (hv : VSm p w τ w' σ) : INV p w' σ := by
  obtain ⟨⟨W, L, p8⟩, hTP, -, hV, -⟩ := id h
  have hA := hV.1.ar
  have hz := W.pz
  have t7 : tg w (fR w 7 p) = 101 := hTP.2.1.1
  have l7 := W.le (r := fR w 7 p) (by rw [t7]; decide)
  have o7 := fr.2.2.2.2 (fR w 7 p) l7 (fun y => by
    rcases List.mem_cons.mp y with z | z
    · have := hTP.2.2.1; omega
    · rw [List.mem_singleton.mp z, hA.1] at t7; cases t7)
  exact inv_gen h fr W' (Or.inr hA.1) hA.2.2 (pf.mono (by decide)) F (fun g hg => Or.inr (hS g hg)) ⟨hV', hT hV.2⟩ hv (hTP.fr (fr.2.2.2.1 _ l7) (fun i => ob.eaI o7 i) (pf 7 (by decide)).2 (pf 8 (by decide)).1 (F 1 (fun y => by have := hS 1 y; omega)).1 (F 0 (fun y => by have := hS 0 y; omega)).2)
/-- a byte more -/
theorem inv_byte {v : Int} (h : INV p w τ) (hv : 0 ≤ v ∧ v ≤ 255) (h1 : tI τ 1 < 1600) : INV p (pI (qI w (fR w 7 p) (fI w 8 p) (sg8 v)) 8 p (fI w 8 p + 1)) (sI (sA τ 0 (tI τ 1) v) 1 (tI τ 1 + 1)) := by
  obtain ⟨⟨W, L, p8⟩, ⟨⟨x1, x2, x3⟩, ⟨y1, y2, y3, y4⟩, z1, z2⟩, -, hV, hT, -⟩ := id h
  have x1 : 0 ≤ tI τ 1 := x1
  have y1 : tg w (fR w 7 p) = 101 := y1
  have y2 : ln w (fR w 7 p) = 1600 := y2
  have y3 : fI w 8 p = tI τ 1 := y3
  have hA := hV.1.ar
  have hz := W.pz
  have KK := hT.kr
  have hkA : tg w (fR w 0 p) = 112 := KK.1.1
  have pk : p < fR w 0 p := KK.1.2.2.1
  obtain ⟨w1, hw1⟩ : ∃ w1, w1 = pI (qI w (fR w 7 p) (fI w 8 p) (sg8 v)) 8 p (fI w 8 p + 1) := ⟨_, rfl⟩
  obtain ⟨τ1, hτ1⟩ : ∃ τ1, τ1 = sI (sA τ 0 (tI τ 1) v) 1 (tI τ 1 + 1) := ⟨_, rfl⟩
  rw [← hw1, ← hτ1]
  have fr : Fr [p, fR w 7 p] w w1 := by rw [hw1]; exact ((Fr.refl _ w).sqI (Or.inl (by simp))).spI (Or.inl (by simp))
  have W1 : WF p w1 := by rw [hw1]; exact (W.sqI _ _ _).spI _ _ _ (Or.inl (by decide))
  have pf : PF [8] p w w1 := by rw [hw1]; exact ((PF.refl _ p w).sqI).spI (Or.inl (by decide))
  have F : FT [0, 1] τ τ1 := by rw [hτ1]; exact ((FT.refl _ τ).ssA (by decide)).ssI (by decide)
  have l3 := W.le (r := fR w 3 p) (by rw [hA.1]; decide)
  have o : ∀ r, r ≤ cz w → r ≠ p → tg w r ≠ 101 → ob w1 r = ob w r := fun r h1 h2 h3 => fr.2.2.2.2 r h1 (fun y => by
    rcases List.mem_cons.mp y with z | z
    · exact h2 z
    · rw [List.mem_singleton.mp z] at h3; exact h3 y1)
  have o3 := o (fR w 3 p) l3 (by omega) (by rw [hA.1]; decide)
  have kx : KX τ τ1 := KX.ft F (fun g hg => by simp at hg; omega)
  have hk : ∀ u, kd w1 p u = kd w p u := fun u => by
    unfold kd
    rw [show fR w1 0 p = fR w 0 p from (pf 0 (by decide)).2]
    exact ob.eaR (o (fR w 0 p) (W.le (by rw [hkA]; decide)) (by omega) (by rw [hkA]; decide)) u
  obtain ⟨r1, r2, r3⟩ := VAL.keep (w' := w1) (σ := τ1) hV W (fun r hr h1 h2 => o r hr (by omega) (by omega)) (fun r hr => fr.2.2.2.1 r hr) ⟨(pf 3 (by decide)).2, (pf 4 (by decide)).1⟩ (fun i => ob.eaR o3 i) (fun g h1 h2 => F g (fun y => by simp at y; omega)) (kx.vk KK.un (fun k _ => hk k))
  have e1 : tI τ1 1 = tI τ 1 + 1 := by rw [hτ1, tI_sI, if_pos rfl]
  have eA : ∀ i : Int, tA τ1 0 i = if i = tI τ 1 then v else tA τ 0 i := fun i => by
    rw [hτ1, tA_sI, tA_sA]
    by_cases q : i = tI τ 1
    · rw [if_pos ⟨rfl, q⟩, if_pos q]
    · rw [if_neg (fun y => q y.2), if_neg q]
  have e7 : fR w1 7 p = fR w 7 p := (pf 7 (by decide)).2
  have t7 := fr.2.2.2.1 (fR w 7 p) (W.le (by rw [y1]; decide))
  have aI1 : ∀ i : Int, aI w1 (fR w 7 p) i = if i = tI τ 1 then sg8 v else aI w (fR w 7 p) i := fun i => by
    rw [hw1, ← y3]
    show (if fR w 7 p = fR w 7 p ∧ i = fI w 8 p then sg8 v else aI w (fR w 7 p) i) = _
    by_cases q : i = fI w 8 p
    · rw [if_pos ⟨rfl, q⟩, if_pos q]
    · rw [if_neg (fun y => q y.2), if_neg q]
  refine inv_gen h fr W1 (Or.inl y1) ⟨z1, z2⟩ (pf.mono (by decide)) F (fun g hg => by simp at hg; omega) r1 ⟨Nat.le_of_eq r2, fun v _ => r3 v⟩ ⟨⟨?_, ?_, fun k hk => ?_⟩, ⟨?_, ?_, ?_, fun k hk => ?_⟩, by rw [e7]; exact z1, by rw [e7]; exact z2⟩
  · show 0 ≤ tI τ1 1; omega
  · show tI τ1 1 ≤ 1600; omega
  · have hk : (k : Int) < tI τ1 1 := hk
    show 0 ≤ tA τ1 0 k ∧ tA τ1 0 k ≤ 255
    rw [eA]
    by_cases q : (k : Int) = tI τ 1
    · rw [if_pos q]; exact hv
    · rw [if_neg q]; exact x3 k (by show (k : Int) < tI τ 1; omega)
  · show tg w1 (fR w1 7 p) = 101
    rw [e7, t7.1]; exact y1
  · show ln w1 (fR w1 7 p) = 1600
    rw [e7, t7.2]; exact y2
  · show fI w1 8 p = tI τ1 1
    rw [e1, hw1, fI_at, y3]
  · have hk : (k : Int) < tI τ1 1 := hk
    show aI w1 (fR w1 7 p) k = sg8 (tA τ1 0 k)
    rw [e7, aI1, eA]
    by_cases q : (k : Int) = tI τ 1
    · rw [if_pos q, if_pos q]
    · rw [if_neg q, if_neg q]; exact y4 k (by show (k : Int) < tI τ 1; omega)
theorem inv_fd {x : Int} : ∀ (m : Nat) (w : CW) (τ : TW), INV p w τ → tI τ 1 + m ≤ 1600 → INV p (fdC p x m w) (fdT x m τ) ∧ (mu (fdC p x m w) = mu w ∧ mz (fdC p x m w) = mz w) ∧ zm (fdC p x m w) = zm w ∧ tI (fdT x m τ) 1 = tI τ 1 + m := by
  intro m
  induction m with
  | zero => intro w τ h _; exact ⟨h, ⟨rfl, rfl⟩, rfl, by show tI τ 1 = tI τ 1 + 0; omega⟩
  | succ m ih =>
    intro w τ h hl
    have hb := bT_rg x m
    have := inv_byte h hb (by omega)
    obtain ⟨i1, i2, i3, i4⟩ := ih _ _ this (by show tI τ 1 + 1 + (m : Int) ≤ 1600; omega)
    refine ⟨i1, i2, i3, i4.trans ?_⟩
    show tI τ 1 + 1 + (m : Int) = _
    omega
end ZWrap
