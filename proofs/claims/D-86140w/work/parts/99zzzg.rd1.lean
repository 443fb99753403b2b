/-! read: the loop over functions, both -/
section ZRd1
variable {p b e d : Nat} {w : CW} {τ : TW}
theorem OUT.pt {α β : Type} {T S S' : List Nat} {an at' : Int} {N : α → β → CW → TW → Prop} {cm : (α → CW → Prop) → (Nat → CW → Prop) → Prop} {tm : (β → TW → Prop) → Prop} (h : OUT p T S S' an at' N cm tm w τ) : OUT p T S S' an at' (fun v v' u σ => N v v' u σ ∧ pot u σ ≤ pot w τ + an) cm tm w τ := by
  obtain ⟨w', τ', b', hc, run, g⟩ := h
  refine ⟨w', τ', b', hc, run, ?_⟩
  rcases g with ⟨a, g1, g2, g3, g4⟩ | g
  · exact Or.inl ⟨a, g1, g2, ⟨g3, g2⟩, g4⟩
  · exact Or.inr g
/-- the handlers of the component's read -/
def RH (p d : Nat) (Qf : Int → CW → Prop) (x : Nat) (u : CW) : Prop := (tg u x = 2 → pC_X0_read_130 p (wpC p d) Qf x u) ∧ (¬ tg u x = 2 → tg u x = 18 ∧ pC_X0_read_154 p (wpC p d) Qf x u)
/-- the ends of what is read: settle, or the handlers -/
def rdE (p d : Nat) (Q : Unit → CW → Prop) (X : Nat → CW → Prop) (Qf : Int → CW → Prop) : Prop := (∀ u, Q () u → wpC p d 41 [ar p] u (zqV (fun u14 => pC_X0_read_84 p (wpC p d) Qf 0 u14) (fun x u => RH p d Qf x u))) ∧ X = RH p d Qf
def rdC2 (p d : Nat) (Q : Unit → CW → Prop) (X : Nat → CW → Prop) (J : (Int → CW → Prop) × (CW → Prop)) : Prop := rdE p d Q X J.1 ∧ ∀ w, wpC p d 12 [ar p, ar (sr w 8)] w (zqI (fun v9 u8 =>
      (v9 = 0 →
        pC_X0_read_62 p (wpC p d) J.1 u8) ∧
      (¬ (v9 = 0) →
        wpC p d 19 [ar p] u8 (zqV (fun u45 =>
          J.2 u45) (fun x47 u48 => RH p d J.1 x47 u48)))) zno) → J.2 w
def rtE (e : Nat) (Q : Bool → TW → Prop) (Qf : Int → TW → Prop) : Prop := (∀ u, Q true u → tI u 7 = 0 → tI u 3 ≠ 7 → wpT e 43 [] u (zqV (fun u45 => pT_read_109 (wpT e) Qf u45) zno)) ∧ ∀ u, Q false u → tI u 7 ≠ 0 → pT_read_109 (wpT e) Qf u
def rtK2 (e : Nat) (Q : Bool → TW → Prop) (J : (Int → TW → Prop) × (TW → Prop)) : Prop := rtE e Q J.1 ∧ ∀ w, ((((tI w 7) = 0) ∧ (¬ ((ff_isWord 2 w) = 0)) →
        wpT e 21 [] w (zqV (fun u16 => J.2 u16) zno)) ∧
      (¬ (((tI w 7) = 0) ∧ (¬ ((ff_isWord 2 w) = 0))) →
        pT_read_79 (wpT e) J.1 w)) → J.2 w
/-- the reference, with a fault or a wrong token, comes to its end -/
theorem rd_dead79 {h pl : Int} (D : Dd h pl τ) : DD [7, 8] h pl (fun (Q : Bool → TW → Prop) => ∀ Qf, rtE (e + 2) Q Qf → pT_read_79 (wpT (e + 2)) Qf τ) τ := by
  by_cases h0 : tI τ 7 = 0
  · have h7 : tI τ 3 = 7 := by
      rcases D with ⟨a, b, c⟩ | ⟨a, b, -⟩
      · have : tI τ 7 = h := a
        omega
      · exact b
    obtain ⟨σ', ⟨F, D', ne⟩, run⟩ := dd_stop (d := e) (k := 2) D (by decide)
    exact ⟨σ', false, F, (F 5 (by decide)).1, (F 1 (by decide)).1, D', fun Q hQ Qf l => bT_read_79 (br1 ⟨h0, by omega⟩ (run _ (bT_read_98 (br0 ne (l.2 _ hQ ne)))))⟩
  · exact ⟨τ, false, FT.refl _ _, rfl, rfl, D, fun Q hQ Qf l => bT_read_79 (br0 (fun y => h0 y.1) (bT_read_98 (br0 h0 (l.2 _ hQ h0))))⟩
theorem Dd.noW {h pl i : Int} (D : Dd h pl τ) : ¬ (tI τ 7 = 0 ∧ ¬ ff_isWord i τ = 0) := by
  intro y
  rcases D with ⟨a, b, c⟩ | ⟨a, b, -⟩
  · have : tI τ 7 = h := a
    omega
  · exact y.2 (ff_w0 (fun z => by omega))
theorem rd_dead2 {h pl : Int} (D : Dd h pl τ) : DD [7, 8] h pl (tmL (rtK2 (e + 2)) (fun _ J => J.2 τ)) τ := by
  obtain ⟨σ', b', k1, k2, k3, k4, k5⟩ := rd_dead79 (e := e) D
  exact ⟨σ', b', k1, k2, k3, k4, fun Q hQ J l => l.2 _ (br0 D.noW (k5 Q hQ J.1 l.1))⟩
/-- out of the functions' loop -/
theorem rd_end {T S S' : List Nat} {N : Unit → Bool → CW → TW → Prop} {t : Int} (rb : RB p w τ) (hR : Rm 100 w τ) (hN : tI τ 3 = 0 → N () true w τ) (h78 : ∀ g, g ∈ [7, 8] → g ∈ S') (ht : 13 ≤ t := by decide) :
    OUTb p b T S S' 0 t N (cmG (rdE p (d + 41)) (fun _ _ Qf => pC_X0_read_62 p (wpC p (d + 41)) Qf w)) (tmL (rtE (e + 11)) (fun _ Qf => pT_read_79 (wpT (e + 11)) Qf τ)) w τ := by
  have ty : fI w 10 p = tI τ 3 := rb.ty
  have hroom := Rm.room rb hR (k := 1) (n := 8) (by decide)
  by_cases z : tI τ 3 = 0
  · refine OUTb.ret (v := ()) (v' := true) rb (hN z) (fun Q X hQ Qf l => bC_X0_read_62 (fa (sC_want (d := d + 39) (by rw [if_pos (ty.trans z)]; decide) (l.1 _ hQ)))) (fun Q hQ Qf l => bT_read_79 (br0 (fun y => y.2 z) (bT_read_98 (br1 rb.f0 (l.1 _ hQ rb.f0 (by omega))))))
  · obtain ⟨σ', ⟨F, D', ne⟩, run⟩ := RB.stop (e := e + 9) rb (k := 2) (by decide)
    refine OUTb.gX (how := 2) (pl := tI τ 5) rb (fun Q X Qf l hX => bC_X0_read_62 (fa (sC_wantNo (d := d + 36) (by rw [if_neg (fun y => z (ty.symm.trans y))]) hroom ?_))) ⟨σ', false, F.mono h78, (F 5 (by decide)).1, (F 1 (by decide)).1, D', fun Q hQ Qf l => bT_read_79 (br1 ⟨rb.f0, z⟩ (run _ (bT_read_98 (br0 ne (l.2 _ hQ ne)))))⟩ ht
    rw [rb.pl]
    have := hX
    rw [l.2] at this
    exact this
theorem rd_loop2 {T S S' : List Nat} {n5 n15 n16 : Nat} (hT : n5 ∈ T ∧ n15 ∈ T ∧ n16 ∈ T) (hS : ∀ g, g ∈ SPD → g ∈ S) (hS' : ∀ g, g ∈ SPX → g ∈ S') : ∀ (g : Nat) (u : CW) (σ : TW), (tI σ 1 - tI σ 5).toNat ≤ g → FS p u σ → FN p u σ → (fR u 5 p = n5 ∧ fR u 15 p = n15 ∧ fR u 16 p = n16) → Rm 12000 u σ →
    OUTb p b T S S' 0 2000 (fun (_ : Unit) (v : Bool) w' τ' => (v = true ∧ tI τ' 3 = 0) ∧ FS p w' τ' ∧ FN p w' τ' ∧ pot w' τ' + 40000 * nF τ' ≤ pot u σ + 40000 * nF σ) (cmG (rdC2 p (d + 41)) (fun _ _ J => J.2 u)) (tmL (rtK2 (e + 11)) (fun _ J => J.2 σ)) u σ := by
  intro g
  induction g using Nat.strongRecOn with
  | ind g ih =>
  intro u σ hg hFS hFN hn hR
  have rb := hFS.1
  have L := rb.2.1 8 _ rfl
  by_cases z : ff_isWord 2 σ = 0
  · refine OUTb.kT (F' := fun Q X J => pC_X0_read_62 p (wpC p (d + 41)) J.1 u) (fun Q X J l k => l.2 u (sR_isWord (d := d + 36) rb L.1 (by decide) (br1 z k))) (OUTb.gT (G' := fun Q J => pT_read_79 (wpT (e + 11)) J.1 σ) (fun Q J l k => l.2 σ (br0 (fun y => y.2 z) k)) ?_)
    have h := rd_end (d := d) (e := e) (b := b) (T := T) (S := S) (S' := S') (t := 2000) (N := fun (_ : Unit) (v : Bool) w' τ' => (v = true ∧ tI τ' 3 = 0) ∧ FS p w' τ' ∧ FN p w' τ' ∧ pot w' τ' + 40000 * nF τ' ≤ pot u σ + 40000 * nF σ) rb (hR.le (by decide)) (fun z => ⟨⟨rfl, z⟩, hFS, hFN, Int.le_refl _⟩) (fun g hg => hS' g ((by decide : ∀ g, g ∈ [7, 8] → g ∈ SPX) g hg))
    exact OUTb.cc (fun Q X k J l => k J.1 l.1) (OUTb.tt (fun Q k J l => k J.1 l.1) h)
  · refine OUTb.kT (F' := fun Q X J => wpC p (d + 41) 19 [ar p] u (zqV (fun u45 => J.2 u45) (fun x u => RH p (d + 41) J.1 x u))) (fun Q X J l k => l.2 u (sR_isWord (d := d + 36) rb L.1 (by decide) (br0 z k))) (OUTb.gT (G' := fun Q J => wpT (e + 11) 21 [] σ (zqV (fun u39 => J.2 u39) zno)) (fun Q J l k => l.2 σ (br1 ⟨rb.f0, z⟩ k)) ?_)
    have h3 : tI σ 3 ≠ 0 := fun y => z (ff_w0 (fun q => by have : tI σ 3 = 6 := q.1; omega))
    have hr := (pr_function (e := e) (M := d) hFS hFN h3 hR).pt.more (by decide)
    refine OUTb.gV (F2 := fun u Q X J => J.2 u) (G2 := fun σ Q J => J.2 σ) hR hr (fun Q X J l k => by rw [l.1.2] at k; exact k) (fun Q J l k => k) (fun _ _ u1 σ1 rb1 n1 k1 hR1 => ?_) (fun h pl σ1 D F1 => (rd_dead2 (e := e + 9) D).mono (fun g hg => hS' g ((by decide : ∀ g, g ∈ [7, 8] → g ∈ SPX) g hg))) (hTT := fun r hr => by
      simp only [List.mem_cons, List.not_mem_nil, or_false] at hr
      left
      rcases hr with hr | hr | hr
      · rw [hr, hn.1]; exact hT.1
      · rw [hr, hn.2.1]; exact hT.2.1
      · rw [hr, hn.2.2]; exact hT.2.2) (hS := hS) (hS' := hS')
    obtain ⟨⟨⟨FS1, FN1, en⟩, hp1⟩, nfr⟩ := n1
    have hlt : tI σ 5 < tI σ 1 := by
      have k5 : tI σ1 1 = tI σ 1 := k1.2.2.2.2.2
      have q1 := rb1.rg
      have q2 : tI σ1 5 = tI σ1 5 := rfl
      have q3 : tI σ1 1 = tI σ1 1 := rfl
      omega
    have q := (ih ((tI σ1 1 - tI σ1 5).toNat) (by have k5 : tI σ1 1 = tI σ 1 := k1.2.2.2.2.2; omega) u1 σ1 (Nat.le_refl _) FS1 FN1 ⟨by rw [(k1.2.1 5 (by decide)).2]; exact hn.1, by rw [(k1.2.1 15 (by decide)).2]; exact hn.2.1, by rw [(k1.2.1 16 (by decide)).2]; exact hn.2.2⟩ (hR1.le (by decide))).nn (N' := fun (_ : Unit) (v : Bool) w' τ' => (v = true ∧ tI τ' 3 = 0) ∧ FS p w' τ' ∧ FN p w' τ' ∧ pot w' τ' + 40000 * nF τ' ≤ pot u σ + 40000 * nF σ) (fun v v' w' τ' _ _ n => ⟨n.1, n.2.1, n.2.2.1, by have := n.2.2.2; omega⟩)
    exact q.le
end ZRd1
