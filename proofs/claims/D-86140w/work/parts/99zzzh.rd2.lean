/-! read: the loop over kinds, both -/
section ZRd2
variable {p b e d : Nat} {w : CW} {τ : TW}
abbrev SRC : List Nat := [1, 6, 9, 10, 11, 12, 13, 14, 17, 18, 19, 20]
abbrev SRT : List Nat := [2, 3, 4, 5, 6, 7, 8, 10, 12, 13, 14, 15, 16, 17, 18, 19, 20, 21, 22, 23, 24, 25, 26, 27, 28, 29, 30, 31, 32, 33, 34, 35, 36, 37, 38, 39, 40, 41, 42, 43, 44, 45, 47, 48, 49, 50, 51, 52, 53, 54, 55, 56, 57, 58, 59, 60]
def rdC1 (p d : Nat) (Q : Unit → CW → Prop) (X : Nat → CW → Prop) (J : (Int → CW → Prop) × (CW → Prop)) : Prop := rdE p d Q X J.1 ∧ ∀ w, wpC p d 12 [ar p, ar (sr w 3)] w (zqI (fun v6 u5 =>
      (v6 = 0 →
        pC_X0_read_45 p (wpC p d) J.1 u5) ∧
      (¬ (v6 = 0) →
        wpC p d 4 [ar p] u5 (zqV (fun u49 =>
          wpC p d 13 [ar p, ai 0] u49 (zqV (fun u51 =>
            wpC p d 4 [ar p] u51 (zqV (fun u53 => J.2 u53) (fun x u => RH p d J.1 x u))) (fun x u => RH p d J.1 x u))) (fun x u => RH p d J.1 x u)))) zno) → J.2 w
def rtK1 (e : Nat) (Q : Bool → TW → Prop) (J : (Int → TW → Prop) × (TW → Prop)) : Prop := rtE e Q J.1 ∧ ∀ w, ((((tI w 7) = 0) ∧ (¬ ((ff_isWord 0 w) = 0)) →
        wpT e 11 [ai 0] w (zqV (fun u16 => J.2 u16) zno)) ∧
      (¬ (((tI w 7) = 0) ∧ (¬ ((ff_isWord 0 w) = 0))) →
        pT_read_57 (wpT e) J.1 w)) → J.2 w
theorem rd_dead1 {h pl : Int} (D : Dd h pl τ) : DD [7, 8] h pl (tmL (rtK1 (e + 2)) (fun _ J => J.2 τ)) τ := by
  obtain ⟨σ', b', k1, k2, k3, k4, k5⟩ := rd_dead79 (e := e) D
  exact ⟨σ', b', k1, k2, k3, k4, fun Q hQ J l => l.2 _ (br0 D.noW (bT_read_57 (fun I hI => hI _ (br0 D.noW (k5 Q hQ J.1 l.1)))))⟩
/-- what stands while kinds are read: no function yet -/
def KS (p b : Nat) (w0 u : CW) (σ : TW) : Prop := RB p u σ ∧ KR p u σ ∧ NA p u ∧ tI σ 16 = 0 ∧ (FA p u ∧ fI u 6 p = 0 ∧ tI σ 41 = 0) ∧ b ≤ cz u ∧ ∀ r, r ≤ b → tg u r = tg w0 r
theorem KS.fn {w0 u : CW} {σ : TW} (h : KS p b w0 u σ) : FS p u σ ∧ FN p u σ ∧ nF σ = 0 := by
  obtain ⟨rb, K, hN, h16, ⟨a1, a2, a3⟩, -, -⟩ := h
  have n0 : nF σ = 0 := by unfold nF; rw [a3]; rfl
  have np0 : np σ = 0 := by unfold np; rw [h16]; rfl
  have := rb.rg
  have q2 : tI σ 5 = tI σ 5 := rfl
  exact ⟨⟨rb, K, hN, by rw [np0]; exact h16, by rw [np0]; omega⟩, ⟨a1, by rw [n0]; exact a2, by rw [n0]; exact a3, by omega, ⟨(fun _ => 0), Nat.zero_le _, fun f hf => by omega⟩, fun f g _ hg => by omega⟩, n0⟩
theorem KS.nx {w0 u u' : CW} {σ σ' : TW} {T : List Nat} (h : KS p b w0 u σ) (c : CF p T [1, 9, 10, 11, 12, 13, 14] [2, 3, 4, 5, 6, 7, 8, 10, 12, 13, 14, 15] u σ u' σ') (rb : RB p u' σ') (K : KR p u' σ') : KS p b w0 u' σ' := by
  obtain ⟨a1, a2, a3, h16, ⟨⟨f1, f2, f3, f4⟩, b2, b3⟩, hb, ht⟩ := h
  have F' := c.2.2.2.1
  have P := c.2.1
  obtain ⟨⟨k1, k2, k3, k4⟩, k5, k6, k7, k8⟩ := a3
  have tg' : ∀ r, tg u r ≠ 0 → tg u' r = tg u r ∧ ln u' r = ln u r := fun r hr => c.1.2.2.2.1 r (a1.1.le hr)
  have t15 := tg' (fR u 15 p) (by rw [show tg u (fR u 15 p) = 103 from k1]; decide)
  have t16 := tg' (fR u 16 p) (by rw [show tg u (fR u 16 p) = 102 from k5]; decide)
  have t5 := tg' (fR u 5 p) (by rw [f1]; decide)
  refine ⟨rb, K, ?_, by rw [(F' 16 (by decide)).1]; exact h16, ⟨?_, by rw [(P 6 (by decide)).1]; exact b2, by rw [(F' 41 (by decide)).1]; exact b3⟩, Nat.le_trans hb c.1.1, fun r hr => ((c.1.2.2.2.1 r (by omega)).1).trans (ht r hr)⟩
  · unfold NA
    rw [(P 15 (by decide)).2, (P 16 (by decide)).2]
    exact ⟨⟨t15.1.trans k1, t15.2.trans k2, k3, k4⟩, t16.1.trans k5, t16.2.trans k6, k7, k8⟩
  · unfold FA
    rw [(P 5 (by decide)).2]
    exact ⟨t5.1.trans f1, t5.2.trans f2, f3, f4⟩
theorem rd_loop1 {w0 : CW} {T : List Nat} {n0 n5 n15 n16 : Nat} (hT : n0 ∈ T ∧ n5 ∈ T ∧ n15 ∈ T ∧ n16 ∈ T) (hT3 : ∀ r, r ≤ b → tg w0 r = 3 → r ∈ T) : ∀ (g : Nat) (u : CW) (σ : TW), (tI σ 1 - tI σ 5).toNat ≤ g → KS p b w0 u σ → (fR u 0 p = n0 ∧ fR u 5 p = n5 ∧ fR u 15 p = n15 ∧ fR u 16 p = n16) → Rm 12000 u σ →
    OUTb p b T SRC SRT 0 2000 (fun (_ : Unit) (v : Bool) w' τ' => (v = true ∧ tI τ' 3 = 0) ∧ FS p w' τ' ∧ FN p w' τ' ∧ pot w' τ' + 40000 * nF τ' ≤ pot u σ) (cmG (rdC1 p (d + 41)) (fun _ _ J => J.2 u)) (tmL (rtK1 (e + 11)) (fun _ J => J.2 σ)) u σ := by
  intro g
  induction g using Nat.strongRecOn with
  | ind g ih =>
  intro u σ hg hK hn hR
  have rb := hK.1
  have L := rb.2.1 3 _ rfl
  by_cases z : ff_isWord 0 σ = 0
  · refine OUTb.kT (F' := fun Q X J => pC_X0_read_45 p (wpC p (d + 41)) J.1 u) (fun Q X J l k => l.2 u (sR_isWord (d := d + 36) rb L.1 (by decide) (br1 z k))) (OUTb.gT (G' := fun Q J => pT_read_57 (wpT (e + 11)) J.1 σ) (fun Q J l k => l.2 σ (br0 (fun y => y.2 z) k)) ?_)
    obtain ⟨FS1, FN1, n0'⟩ := hK.fn
    have h := (rd_loop2 (p := p) (b := b) (d := d) (e := e) (T := T) (S := SRC) (S' := SRT) ⟨hT.2.1, hT.2.2.1, hT.2.2.2⟩ (by decide) (by decide) _ u σ (Nat.le_refl _) FS1 FN1 ⟨hn.2.1, hn.2.2.1, hn.2.2.2⟩ hR).nn (N' := fun (_ : Unit) (v : Bool) w' τ' => (v = true ∧ tI τ' 3 = 0) ∧ FS p w' τ' ∧ FN p w' τ' ∧ pot w' τ' + 40000 * nF τ' ≤ pot u σ) (fun v v' w' τ' _ _ n => ⟨n.1, n.2.1, n.2.2.1, by have := n.2.2.2; rw [n0'] at this; omega⟩)
    exact OUTb.cc (fun Q X k J l => bC_X0_read_45 (fun I hI => k (J.1, I) ⟨l.1, hI⟩)) (OUTb.tt (fun Q k J l => bT_read_57 (fun I hI => k (J.1, I) ⟨l.1, hI⟩)) h)
  · refine OUTb.kT (F' := fun Q X J => wpC p (d + 41) 4 [ar p] u (zqV (fun u49 =>
          wpC p (d + 41) 13 [ar p, ai 0] u49 (zqV (fun u51 =>
            wpC p (d + 41) 4 [ar p] u51 (zqV (fun u53 => J.2 u53) (fun x u => RH p (d + 41) J.1 x u))) (fun x u => RH p (d + 41) J.1 x u))) (fun x u => RH p (d + 41) J.1 x u))) (fun Q X J l k => l.2 u (sR_isWord (d := d + 36) rb L.1 (by decide) (br0 z k))) (OUTb.gT (G' := fun Q J => wpT (e + 11) 11 [ai 0] σ (zqV (fun u39 => J.2 u39) zno)) (fun Q J l k => l.2 σ (br1 ⟨rb.f0, z⟩ k)) ?_)
    have h3 : tI σ 3 ≠ 0 := fun y => z (ff_w0 (fun q => by have : tI σ 3 = 6 := q.1; omega))
    obtain ⟨T1, hT1⟩ : ∃ T1, T1 = fR u 0 p :: (List.range (nK σ)).map (kd u p) := ⟨_, rfl⟩
    have hr := (pr_readKind (d := d + 27) (e := e + 4) (late := 0) (T := T1) (S := [1, 9, 10, 11, 12, 13, 14]) (S' := [2, 3, 4, 5, 6, 7, 8, 10, 12, 13, 14, 15]) rb hK.2.1 h3 (fun _ k hk => by rw [hT1]; exact List.mem_cons.mpr (Or.inr (List.mem_map.mpr ⟨k, List.mem_range.mpr hk, rfl⟩))) (by rw [hT1]; exact List.mem_cons.mpr (Or.inl rfl)) (fun f hf => hf) (by decide) (fun f hf => hf) (hR.le (by decide))).out.pt.more (by decide)
    refine OUTb.gV (F2 := fun u Q X J => J.2 u) (G2 := fun σ Q J => J.2 σ) hR hr (fun Q X J l k => by rw [l.1.2] at k; exact k) (fun Q J l k => k) (fun _ _ u1 σ1 rb1 n1 k1 hR1 => ?_) (fun h pl σ1 D F1 => (rd_dead1 (e := e + 9) D).mono (by decide)) (hTT := fun r hr => by
      rw [hT1] at hr
      rcases List.mem_cons.mp hr with y | y
      · left; rw [y, hn.1]; exact hT.1
      · obtain ⟨k, k1, k2⟩ := List.mem_map.mp y
        have hk := hK.2.1.2.2.2.2.1 k (List.mem_range.mp k1)
        rcases Nat.lt_or_ge b r with q | q
        · exact Or.inr q
        · left
          refine hT3 r q ?_
          rw [← hK.2.2.2.2.2.2 r q, ← k2]
          exact hk.1) (hS := by decide) (hS' := by decide)
    obtain ⟨⟨⟨K1, en⟩, hp1⟩, nfr⟩ := n1
    have hlt : tI σ 5 < tI σ 1 := by
      have k5 : tI σ1 1 = tI σ 1 := k1.2.2.2.2.2
      have q1 := rb1.rg
      have q2 : tI σ1 5 = tI σ1 5 := rfl
      have q3 : tI σ1 1 = tI σ1 1 := rfl
      omega
    have q := (ih ((tI σ1 1 - tI σ1 5).toNat) (by have k5 : tI σ1 1 = tI σ 1 := k1.2.2.2.2.2; omega) u1 σ1 (Nat.le_refl _) (hK.nx k1 rb1 K1) ⟨by rw [(k1.2.1 0 (by decide)).2]; exact hn.1, by rw [(k1.2.1 5 (by decide)).2]; exact hn.2.1, by rw [(k1.2.1 15 (by decide)).2]; exact hn.2.2.1, by rw [(k1.2.1 16 (by decide)).2]; exact hn.2.2.2⟩ (hR1.le (by decide))).nn (N' := fun (_ : Unit) (v : Bool) w' τ' => (v = true ∧ tI τ' 3 = 0) ∧ FS p w' τ' ∧ FN p w' τ' ∧ pot w' τ' + 40000 * nF τ' ≤ pot u σ) (fun v v' w' τ' _ _ n => ⟨n.1, n.2.1, n.2.2.1, by have := n.2.2.2; omega⟩)
    exact q.le
end ZRd2
