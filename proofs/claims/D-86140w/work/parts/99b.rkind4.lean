/-! a line of a kind, both: what it comes under -/
section ZRKind4
variable {p d e : Nat} {w : CW} {τ : TW}
theorem kfB_new {τ0 : TW} {v uv : Int} (hN : NewK τ0 τ v uv) (h0 : 0 ≤ tI τ0 10) (z : Int) : nK τ = nK τ0 + 1 ∧ kfB τ z = if v = z then (nK τ0 : Int) else kfB τ0 z := by
  obtain ⟨e10, e12, e13, e14, e15⟩ := hN
  have en : nK τ = nK τ0 + 1 := by unfold nK; rw [e10]; omega
  have ek : ∀ n, n ≤ nK τ0 → kfN τ z n = kfN τ0 z n := by
    intro n
    induction n with
    | zero => intro _; rfl
    | succ n ih =>
      intro hn
      show (if tA τ 12 n = z then (n : Int) else kfN τ z n) = (if tA τ0 12 n = z then (n : Int) else kfN τ0 z n)
      rw [show tA τ 12 n = tA τ0 12 n from by rw [e12, if_neg (by omega)], ih (by omega)]
  refine ⟨en, ?_⟩
  unfold kfB
  rw [en]
  show (if tA τ 12 (nK τ0) = z then (nK τ0 : Int) else kfN τ z (nK τ0)) = _
  rw [e12, if_pos rfl, ek _ (Nat.le_refl _)]
theorem slN_new {τ0 : TW} {v : Int} (hN : NewK τ0 τ v (-4)) (h0 : 0 ≤ tI τ0 10) (u : Nat) : slN τ u (nK τ) = slN τ0 u (nK τ0) := by
  have en := (kfB_new hN h0 0).1
  obtain ⟨e10, e12, e13, e14, e15⟩ := hN
  have es : slN τ u (nK τ0) = slN τ0 u (nK τ0) := slN_eq u (nK τ0) (fun q hq => by rw [e13, if_neg (by omega)])
  rw [en]
  show (if ¬ (slN τ u (nK τ0) = 0) ∨ tA τ 13 (nK τ0) = u then (1 : Int) else 0) = _
  rw [es, e13, if_pos rfl]
  rcases slN_01 (τ := τ0) u (nK τ0) with y | y
  · rw [y, if_neg (by omega)]
  · rw [y, if_pos (by omega)]
/-- from the token behind the name on -/
theorem rk_97 {late : Int} {v : Int} {S S' T : List Nat} {τ0 : TW} (h : RB p w τ) (K : KR p w τ0) (hn : nK τ0 < 24) (hN : NewK τ0 τ v (-4)) (hv : ∀ j, j < nK τ0 → tA τ0 12 j ≠ v) (hT : late = 0 → ∀ u, u < nK τ0 → kd w p u ∈ T) (hT0 : fR w 0 p ∈ T) (hS : ∀ f, f ∈ [1, 9, 10, 11, 12, 13, 14] → f ∈ S) (h0S : 0 ∉ S) (hS' : ∀ f, f ∈ [2, 3, 4, 5, 6, 7, 8, 13, 14, 15] → f ∈ S') (hR : Rm 400 w τ) :
    OUTg (nK τ0) p T S S' (-5800) 40 (fun (_ : Unit) (_ : Unit) w' τ' => KR p w' τ' ∧ nK τ' = nK τ0 + 1) (fun Q X => (late = 0 →
              pC_X0_readKind_92 p (wpC p (d + 13)) (fun u => wpC p (d + 14) 4 [ar p] u (zqV (Q ()) X)) X late v 0 p w) ∧
            (¬ (late = 0) →
              wpC p (d + 13) 12 [ar p, ar (sr w 4)] w (zqI (fun v114 u113 =>
                (v114 = 0 →
                  pC_X0_readKind_97 p (wpC p (d + 13)) (fun u => wpC p (d + 14) 4 [ar p] u (zqV (Q ()) X)) X late v 0 0 p u113) ∧
                (¬ (v114 = 0) →
                  pC_X0_readKind_92 p (wpC p (d + 13)) (fun u => wpC p (d + 14) 4 [ar p] u (zqV (Q ()) X)) X late v 0 p u113)) zno))) (fun Q => ((ff_isWord 1 τ) = 0 →
        (late = 0 →
          pT_readKind_142 (wpT (e + 6)) (Q ()) (nK τ0) τ) ∧
        (¬ (late = 0) →
          wpT (e + 6) 12 [ai 2] τ (zqV (fun u46 =>
            pT_readKind_142 (wpT (e + 6)) (Q ()) (nK τ0) u46) zno))) ∧
      (¬ ((ff_isWord 1 τ) = 0) →
        wpT (e + 6) 15 [ai (nK τ0), ai late] τ (zqV (fun u47 =>
          pT_readKind_142 (wpT (e + 6)) (Q ()) (nK τ0) u47) zno))) w τ := by
  have W := h.1
  have hk0 := K.2.2.1
  have hSl : ∀ f, f ∈ [9, 10, 11, 12, 13, 14] → f ∈ S := fun f hf => hS f (by simp at hf ⊢; omega)
  have hk24 : nK τ0 < 24 := hn
  have h78 : 7 ∈ S' ∧ 8 ∈ S' := ⟨hS' 7 (by decide), hS' 8 (by decide)⟩
  have en := (kfB_new hN hk0 0).1
  have hK24 : 0 ≤ tI τ 10 ∧ tI τ 10 ≤ 24 := by
    have := hN.1
    have : (nK τ0 : Int) = tI τ0 10 := by unfold nK; omega
    omega
  rcases ff_w01 1 τ with z | z
  · -- it comes under none
    have z' : ff_isWord ((1 : Nat) : Int) τ = 0 := z
    by_cases hl : late = 0
    · obtain ⟨w1, τ1, b, c1, run1, g⟩ := rk_197 (d := d) (e := e) (x4 := 0) (uv := -4) (T := T) (S := S) (S' := S') h K hn hN hv (Or.inl ⟨rfl, rfl⟩) (Or.inr (Or.inl rfl)) hT0 hS h0S (fun f hf => hS' f (by simp at hf ⊢; omega)) hR
      have cm : ∀ (Q : CW → Prop) (X : Nat → CW → Prop), pC_X0_readKind_197 p (wpC p (d + 13)) Q X v 0 w → pC_X0_readKind_92 p (wpC p (d + 13)) Q X late v 0 p w := fun Q X hh => ⟨W.2.1, sC_want (by decide) (h.word 4 1 rfl (by decide) ⟨fun _ => hh, fun y => absurd z' y⟩)⟩
      refine ⟨w1, τ1, (), c1, fun Q hQ => ⟨fun _ => ⟨fun _ => run1 Q hQ, fun y => absurd hl y⟩, fun y => absurd z y⟩, ?_⟩
      rcases g with ⟨a, g1, g2, g3, g4⟩ | ⟨hh, pl, x, g1, g2, g3, g4⟩
      · exact Or.inl ⟨(), g1, g2, g3, fun Q X hQ => ⟨fun _ => cm _ X (g4 Q X hQ), fun y => absurd hl y⟩⟩
      · exact Or.inr ⟨hh, pl, x, g1, g2, g3, fun Q X hX => ⟨fun _ => cm _ X (g4 Q X hX), fun y => absurd hl y⟩⟩
    · obtain ⟨τ1, ⟨a1, b1, c1⟩, run1⟩ := RB.stop (e := e + 4) h (k := 2) (by decide)
      obtain ⟨τ2, ⟨a2, b2⟩, run2⟩ := dk_142 (e := e + 2) (k := (nK τ0 : Int)) b1
      refine OUTg.thr' (b := ()) h K (by decide) (fun Q X hX => ⟨fun y => absurd y hl, fun _ => h.word 4 1 rfl (by decide) ⟨fun _ => ⟨W.2.1, sC_wantNo rfl (Rm.room h hR (k := 1) (n := 8) (by decide)) ?_⟩, fun y => absurd z' y⟩⟩) (a1.trans a2) h78 b2 (fun Q hQ => ⟨fun _ => ⟨fun y => absurd y hl, fun _ => run1 _ (run2 _ hQ)⟩, fun y => absurd z y⟩)
      rw [h.pl]; exact hX
  · -- it comes under one
    have z' : ff_isWord ((1 : Nat) : Int) τ ≠ 0 := by
      have : ff_isWord ((1 : Nat) : Int) τ = 1 := z
      omega
    have z0 : ¬ (ff_isWord 1 τ = 0) := by omega
    have hs0 : tI τ 3 ≠ 0 := by
      intro y
      have := ff_w0 (i := 1) (τ := τ) (fun x => by omega)
      omega
    obtain ⟨w1, σ, c1, p1, run1, g⟩ := nx (d := d + 1) (e := e + 1) (T := []) (S := [9, 10, 11, 12, 13, 14]) (S' := [2, 3, 4, 5, 6]) h hs0 (fun f hf => hf) (fun f hf => hf) (by unfold Rm at *; omega)
    have c1' : CF p T S S' w τ w1 σ := c1.mono W (fun r hr => by cases hr) hSl (fun f hf => hS' f (by simp at hf ⊢; omega))
    have cm : ∀ (Q : CW → Prop) (X : Nat → CW → Prop), wpC p (d + 13) 4 [ar p] w (zqV (fun u75 =>
          ∀ v77 : Int, v77 = (if (fI u75 10 p) = 2 then 1 else 0) →
          wpC p (d + 13) 14 [ar p, ai v77] u75 (zqV (fun u78 =>
            wpC p (d + 13) 15 [ar p, al (fI u78 12 p)] u78 (zqR (fun v81 u80 =>
              ∀ v82 : Int, v82 = (if ¬ (v81 = 0) then 1 else 0) →
              wpC p (d + 13) 10 [ar p, ai v82, ai 4, ai (fI u80 11 p)] u80 (zqV (fun u83 =>
                (hF 42 (tg u83 v81) = true) ∧
                (((fI u83 42 v81) = 0 → (¬ (late = 0) → (hF 40 (tg u83 v81) = true)))) ∧
                ∀ v86 : Int, v86 = (if ((fI u83 42 v81) = 0) ∧ ((late = 0) ∨ (¬ ((fI u83 40 v81) = 0))) then 1 else 0) →
                wpC p (d + 13) 10 [ar p, ai v86, ai 5, ai (fI u83 11 p)] u83 (zqV (fun u88 =>
                  wpC p (d + 13) 4 [ar p] u88 (zqV (fun u90 =>
                    pC_X0_readKind_197 p (wpC p (d + 13)) Q X v v81 u90) (fun x92 u93 =>
                    X x92 u93))) (fun x94 u95 =>
                  X x94 u95))) (fun x100 u101 =>
                X x100 u101))) zno)) (fun x104 u105 =>
            X x104 u105))) (fun x108 u109 =>
          X x108 u109)) → (late = 0 →
              pC_X0_readKind_92 p (wpC p (d + 13)) Q X late v 0 p w) ∧
            (¬ (late = 0) →
              wpC p (d + 13) 12 [ar p, ar (sr w 4)] w (zqI (fun v114 u113 =>
                (v114 = 0 →
                  pC_X0_readKind_97 p (wpC p (d + 13)) Q X late v 0 0 p u113) ∧
                (¬ (v114 = 0) →
                  pC_X0_readKind_92 p (wpC p (d + 13)) Q X late v 0 p u113)) zno)) := by
      intro Q X hh
      have h92 : pC_X0_readKind_92 p (wpC p (d + 13)) Q X late v 0 p w := ⟨W.2.1, sC_want (by decide) (h.word 4 1 rfl (by decide) ⟨fun y => absurd y z', fun _ => hh⟩)⟩
      exact ⟨fun _ => h92, fun _ => h.word 4 1 rfl (by decide) ⟨fun y => absurd y z', fun _ => h92⟩⟩
    -- the reference's way
    have tm : ∀ (Q : TW → Prop), ((tI σ 3 = 2 → wpT (e + 5) 14 [al (tI σ 4)] σ (zqI (fun v4 u3 =>
        ((v4 = (-4)) ∨ (v4 = (nK τ0 : Int)) →
          pT_readUnder_38 (wpT (e + 5)) Q u3) ∧
        (¬ ((v4 = (-4)) ∨ (v4 = (nK τ0 : Int))) →
          (0 ≤ v4 ∧ v4 < 24) ∧
          (0 < (tA u3 14 v4) →
            pT_readUnder_71 (wpT (e + 5)) Q u3) ∧
          (¬ (0 < (tA u3 14 v4)) →
            (late = 0 →
              pT_readUnder_83 (wpT (e + 5)) Q (nK τ0) v4 u3) ∧
            (¬ (late = 0) →
              wpT (e + 5) 16 [ai v4] u3 (zqI (fun v14 u13 =>
                (v14 = 0 →
                  pT_readUnder_71 (wpT (e + 5)) Q u13) ∧
                (¬ (v14 = 0) →
                  pT_readUnder_83 (wpT (e + 5)) Q (nK τ0) v4 u13)) zno))))) zno)) ∧
      (¬ (tI σ 3 = 2) → wpT (e + 5) 12 [ai 2] σ (zqV (fun u21 => Q u21) zno))) → wpT (e + 6) 15 [ai (nK τ0), ai late] τ (zqV (fun u => Q u) zno) := by
      intro Q hh
      exact wT_readUnder (Nat.zero_le _) (run1 _ hh)
    have hf0 : tI σ 7 = 0 := (c1.2.2.2.1 7 (by decide)).1.trans h.f0
    -- the reference stops; what follows is dead
    have dead : ∀ {hh pl : Int} {τ2 : TW}, Dd hh pl τ2 → FT S' τ τ2 → tI τ2 5 = tI σ 5 → tI τ2 1 = tI σ 1 → KSm (nK τ0) σ τ2 → ∃ τ3, FT S' τ τ3 ∧ tI τ3 5 = tI σ 5 ∧ tI τ3 1 = tI σ 1 ∧ Dd hh pl τ3 ∧ KSm (nK τ0) τ τ3 ∧ ∀ Q : TW → Prop, Q τ3 → pT_readKind_142 (wpT (e + 6)) Q (nK τ0) τ2 := by
      intro hh pl τ2 D F1 e5 e1 k2
      obtain ⟨τ3, ⟨a2, b2⟩, run2⟩ := dk_142 (e := e + 2) (k := (nK τ0 : Int)) D
      exact ⟨τ3, F1.trans (a2.mono (fun f hf => hS' f (by simp at hf ⊢; omega))), (a2 5 (by decide)).1.trans e5, (a2 1 (by decide)).1.trans e1, b2, ((KSm.ft c1.2.2.2.1 (by decide)).trans k2).trans (KSm.ft a2 (by decide)), run2⟩
    have ft78 : ∀ {τ1 : TW}, FT [7, 8] σ τ1 → FT S' τ τ1 ∧ tI τ1 5 = tI σ 5 ∧ tI τ1 1 = tI σ 1 := fun F => ⟨c1'.2.2.2.1.trans (F.mono (fun f hf => hS' f (by simp at hf ⊢; omega))), (F 5 (by decide)).1, (F 1 (by decide)).1⟩
    have kd1 : ∀ u, kd w1 p u = kd w p u := fun u => KRs.kd_fr W K c1.1 c1.2.1 (fun r hr => by cases hr) (by decide) u
    rcases g with ⟨g1, g4⟩ | ⟨hh, pl, x, g2, g3, g4⟩
    · -- a token more
      have W1 := c1.2.2.1
      have K1 : KR p w1 τ0 := KR.fr W K c1.1 c1.2.1 (fun r hr => by cases hr) (by decide) (by decide) (FT.refl [] τ0) (fun f hf => by cases hf)
      have N1 : NewK τ0 σ v (-4) := hN.ft c1.2.2.2.1 (fun f hf => by simp at hf; omega)
      have hR1 : Rm 400 w1 σ := by
        unfold Rm at *
        rw [c1.1.emu, c1.1.emz]
        omega
      have hroom1 := Rm.room g1 hR1 (k := 1) (n := 8) (by decide)
      -- the component throws here
      have thr : ∀ {how : Int} {τ3 : TW}, 1 ≤ how → FT S' τ τ3 → tI τ3 5 = tI σ 5 → tI τ3 1 = tI σ 1 → Dd how (tI σ 5) τ3 → KSm (nK τ0) τ τ3 →
          (∀ (Q : CW → Prop) (X : Nat → CW → Prop), X (cz w1 + 1) (wrW w1 how (tI σ 5)) → ∀ v77 : Int, v77 = (if (fI w1 10 p) = 2 then 1 else 0) →
          wpC p (d + 13) 14 [ar p, ai v77] w1 (zqV (fun u78 =>
            wpC p (d + 13) 15 [ar p, al (fI u78 12 p)] u78 (zqR (fun v81 u80 =>
              ∀ v82 : Int, v82 = (if ¬ (v81 = 0) then 1 else 0) →
              wpC p (d + 13) 10 [ar p, ai v82, ai 4, ai (fI u80 11 p)] u80 (zqV (fun u83 =>
                (hF 42 (tg u83 v81) = true) ∧
                (((fI u83 42 v81) = 0 → (¬ (late = 0) → (hF 40 (tg u83 v81) = true)))) ∧
                ∀ v86 : Int, v86 = (if ((fI u83 42 v81) = 0) ∧ ((late = 0) ∨ (¬ ((fI u83 40 v81) = 0))) then 1 else 0) →
                wpC p (d + 13) 10 [ar p, ai v86, ai 5, ai (fI u83 11 p)] u83 (zqV (fun u88 =>
                  wpC p (d + 13) 4 [ar p] u88 (zqV (fun u90 =>
                    pC_X0_readKind_197 p (wpC p (d + 13)) Q X v v81 u90) (fun x92 u93 =>
                    X x92 u93))) (fun x94 u95 =>
                  X x94 u95))) (fun x100 u101 =>
                X x100 u101))) zno)) (fun x104 u105 =>
            X x104 u105))) →
          (∀ Q : TW → Prop, Q τ3 → ((tI σ 3 = 2 → wpT (e + 5) 14 [al (tI σ 4)] σ (zqI (fun v4 u3 =>
        ((v4 = (-4)) ∨ (v4 = (nK τ0 : Int)) →
          pT_readUnder_38 (wpT (e + 5)) (fun u => pT_readKind_142 (wpT (e + 6)) Q (nK τ0) u) u3) ∧
        (¬ ((v4 = (-4)) ∨ (v4 = (nK τ0 : Int))) →
          (0 ≤ v4 ∧ v4 < 24) ∧
          (0 < (tA u3 14 v4) →
            pT_readUnder_71 (wpT (e + 5)) (fun u => pT_readKind_142 (wpT (e + 6)) Q (nK τ0) u) u3) ∧
          (¬ (0 < (tA u3 14 v4)) →
            (late = 0 →
              pT_readUnder_83 (wpT (e + 5)) (fun u => pT_readKind_142 (wpT (e + 6)) Q (nK τ0) u) (nK τ0) v4 u3) ∧
            (¬ (late = 0) →
              wpT (e + 5) 16 [ai v4] u3 (zqI (fun v14 u13 =>
                (v14 = 0 →
                  pT_readUnder_71 (wpT (e + 5)) (fun u => pT_readKind_142 (wpT (e + 6)) Q (nK τ0) u) u13) ∧
                (¬ (v14 = 0) →
                  pT_readUnder_83 (wpT (e + 5)) (fun u => pT_readKind_142 (wpT (e + 6)) Q (nK τ0) u) (nK τ0) v4 u13)) zno))))) zno)) ∧
      (¬ (tI σ 3 = 2) → wpT (e + 5) 12 [ai 2] σ (zqV (fun u21 => pT_readKind_142 (wpT (e + 6)) Q (nK τ0) u21) zno)))) →
          OUTg (nK τ0) p T S S' (-5800) 40 (fun (_ : Unit) (_ : Unit) w' τ' => KR p w' τ' ∧ nK τ' = nK τ0 + 1) (fun Q X => (late = 0 →
              pC_X0_readKind_92 p (wpC p (d + 13)) (fun u => wpC p (d + 14) 4 [ar p] u (zqV (Q ()) X)) X late v 0 p w) ∧
            (¬ (late = 0) →
              wpC p (d + 13) 12 [ar p, ar (sr w 4)] w (zqI (fun v114 u113 =>
                (v114 = 0 →
                  pC_X0_readKind_97 p (wpC p (d + 13)) (fun u => wpC p (d + 14) 4 [ar p] u (zqV (Q ()) X)) X late v 0 0 p u113) ∧
                (¬ (v114 = 0) →
                  pC_X0_readKind_92 p (wpC p (d + 13)) (fun u => wpC p (d + 14) 4 [ar p] u (zqV (Q ()) X)) X late v 0 p u113)) zno))) (fun Q => ((ff_isWord 1 τ) = 0 →
        (late = 0 →
          pT_readKind_142 (wpT (e + 6)) (Q ()) (nK τ0) τ) ∧
        (¬ (late = 0) →
          wpT (e + 6) 12 [ai 2] τ (zqV (fun u46 =>
            pT_readKind_142 (wpT (e + 6)) (Q ()) (nK τ0) u46) zno))) ∧
      (¬ ((ff_isWord 1 τ) = 0) →
        wpT (e + 6) 15 [ai (nK τ0), ai late] τ (zqV (fun u47 =>
          pT_readKind_142 (wpT (e + 6)) (Q ()) (nK τ0) u47) zno))) w τ := by
        intro how τ3 hh F3 e5 e1 D3 hkS hC hTm
        refine ⟨wrW w1 how (tI σ 5), τ3, (), ⟨⟨c1'.1.trans (wrW_fr _ _ _ _), c1'.2.1.trans (wrW_st W1 [] S how (tI σ 5)).2.1, (wrW_st W1 [] S how (tI σ 5)).2.2.1, F3, by rw [e5]; exact c1.2.2.2.2.1, by rw [e1]; exact c1.2.2.2.2.2⟩, fun u _ => (wrW_kd W1 K1 _ _ u).trans (kd1 u), hkS⟩, fun Q hQ => ⟨fun y => absurd y z0, fun _ => tm _ (hTm (Q ()) hQ)⟩, Or.inr ⟨how, tI σ 5, cz w1 + 1, ?_, wrW_wr _ _ _, D3, fun Q X hX => cm _ X (g4 _ (hC _ X hX))⟩⟩
        have e8 : pot (wrW w1 how (tI σ 5)) τ3 = pot w1 σ + 13 := by
          have q1 : cz (wrW w1 how (tI σ 5)) = cz w1 + 1 := rfl
          have q2 : cu (wrW w1 how (tI σ 5)) = cu w1 + 8 := rfl
          unfold pot zm
          rw [e5, e1, q1, q2]
          omega
        omega
      by_cases h2 : tI σ 3 = 2
      · have h2' : tI σ 3 = 2 := h2
        have ek := (kfB_new N1 hk0 (tI σ 4)).2
        have hty : fI w1 10 p = 2 := g1.ty.trans h2
        have hwd : fI w1 12 p = tI σ 4 := g1.wd (Or.inr (Or.inl h2))
        have hK1 : 0 ≤ tI σ 10 ∧ tI σ 10 ≤ 24 := by
          rw [(c1.2.2.2.1 10 (by decide)).1]; exact hK24
        -- a fault of the reference here
        have ftl : ∀ (k : Int), 1 ≤ k → ∃ τ3, FT S' τ τ3 ∧ tI τ3 5 = tI σ 5 ∧ tI τ3 1 = tI σ 1 ∧ Dd k (tI σ 5) τ3 ∧ KSm (nK τ0) τ τ3 ∧ ∀ Q : TW → Prop, Q τ3 → wpT (e + 5) 13 [ai k, ai (tI σ 5)] σ (zqV (fun u => pT_readUnder_94 (wpT (e + 5)) (fun u => pT_readKind_142 (wpT (e + 6)) Q (nK τ0) u) u) zno) := by
          intro k hk
          obtain ⟨τ1, ⟨a1, b1, d1⟩, r1⟩ := RB.fails (e := e + 4) g1 (k := k) (pl := tI σ 5) hk
          obtain ⟨f1, f2, f3⟩ := ft78 a1
          obtain ⟨τ3, q1, q2, q3, q4, q6, q5⟩ := dead b1 f1 f2 f3 (KSm.ft a1 (by decide))
          exact ⟨τ3, q1, q2, q3, q4, q6, fun Q hQ => r1 _ (q5 Q hQ)⟩
        by_cases hkf : kfB τ0 (tI σ 4) = -4
        · -- no kind of that name
          obtain ⟨τ3, q1, q2, q3, q4, q6, q5⟩ := ftl 4 (by decide)
          refine thr (how := 4) (by decide) q1 q2 q3 q4 q6 (fun Q X hX => fa ?_) (fun Q hQ => ⟨fun _ => sT_kindOf hK1.1 hK1.2 ⟨fun _ => q5 Q hQ, fun y => ?_⟩, fun y => absurd h2' y⟩)
          · rw [if_pos hty]
            refine sC_want (by decide) ?_
            show wpC p (d + 13) 15 [ar p, al (fI w1 12 p)] w1 _
            rw [hwd]
            refine sC_named K1 ?_
            rw [if_pos hkf]
            refine fa ?_
            rw [if_neg (fun y => y rfl), g1.pl]
            exact sC_needNo rfl hroom1 hX
          · exfalso
            apply y
            have ek' : kfB σ (tI σ 4) = _ := ek
            rw [ek', hkf]
            by_cases x : v = tI σ 4
            · rw [if_pos x]; exact Or.inr rfl
            · rw [if_neg x]; exact Or.inl rfl
        · obtain ⟨u, u1, u2⟩ := (kfB_rg τ0 (tI σ 4)).resolve_left hkf
          have hul := K1.2.2.2.2.1 u u1
          have hvne : v ≠ tI σ 4 := by
            intro x
            rcases kfN_spec (τ := τ0) (tI σ 4) (nK τ0) with ⟨y, _⟩ | ⟨q, q1, q2, q3⟩
            · exact hkf y
            · exact hv q q1 (q3.trans x.symm)
          have ek1 : kfB σ (tI σ 4) = (u : Int) := by
            have ek' : kfB σ (tI σ 4) = _ := ek
            rw [ek', if_neg hvne, u2]
          have ekd : kd w1 p u = kd w p u := KRs.kd_fr W K c1.1 c1.2.1 (fun r hr => by cases hr) (by decide) u
          have hpm : tA σ 14 (u : Int) = tA τ0 14 u := by
            have := N1.2.2.2.1 u
            rw [if_neg (by omega)] at this
            exact this
          have hse : fI w1 40 (kd w1 p u) = slN τ0 u (nK τ0) := K1.2.2.2.2.2.2.1 u u1
          have hne0 : kd w1 p u ≠ 0 := by have := hul.2.1; omega
          have hm0 : 0 ≤ tA τ0 14 u := hul.2.2.2.2.2.2.1
          have hmany : fI w1 42 (kd w1 p u) = tA τ0 14 u := hul.2.2.2.2.2.1
          have hht : hF 42 (tg w1 (kd w1 p u)) = true ∧ hF 40 (tg w1 (kd w1 p u)) = true := by rw [hul.1]; decide
          -- the component up to the judgement
          have cm5 : ∀ (Q : CW → Prop) (X : Nat → CW → Prop), (∀ v86 : Int, v86 = (if ((fI w1 42 (kd w1 p u)) = 0) ∧ ((late = 0) ∨ (¬ ((fI w1 40 (kd w1 p u)) = 0))) then 1 else 0) →
                wpC p (d + 13) 10 [ar p, ai v86, ai 5, ai (fI w1 11 p)] w1 (zqV (fun u88 =>
                  wpC p (d + 13) 4 [ar p] u88 (zqV (fun u90 =>
                    pC_X0_readKind_197 p (wpC p (d + 13)) Q X v (kd w1 p u) u90) (fun x92 u93 =>
                    X x92 u93))) (fun x94 u95 =>
                  X x94 u95))) → ∀ v77 : Int, v77 = (if (fI w1 10 p) = 2 then 1 else 0) →
          wpC p (d + 13) 14 [ar p, ai v77] w1 (zqV (fun u78 =>
            wpC p (d + 13) 15 [ar p, al (fI u78 12 p)] u78 (zqR (fun v81 u80 =>
              ∀ v82 : Int, v82 = (if ¬ (v81 = 0) then 1 else 0) →
              wpC p (d + 13) 10 [ar p, ai v82, ai 4, ai (fI u80 11 p)] u80 (zqV (fun u83 =>
                (hF 42 (tg u83 v81) = true) ∧
                (((fI u83 42 v81) = 0 → (¬ (late = 0) → (hF 40 (tg u83 v81) = true)))) ∧
                ∀ v86 : Int, v86 = (if ((fI u83 42 v81) = 0) ∧ ((late = 0) ∨ (¬ ((fI u83 40 v81) = 0))) then 1 else 0) →
                wpC p (d + 13) 10 [ar p, ai v86, ai 5, ai (fI u83 11 p)] u83 (zqV (fun u88 =>
                  wpC p (d + 13) 4 [ar p] u88 (zqV (fun u90 =>
                    pC_X0_readKind_197 p (wpC p (d + 13)) Q X v v81 u90) (fun x92 u93 =>
                    X x92 u93))) (fun x94 u95 =>
                  X x94 u95))) (fun x100 u101 =>
                X x100 u101))) zno)) (fun x104 u105 =>
            X x104 u105)) := by
            intro Q X hh
            refine fa ?_
            rw [if_pos hty]
            refine sC_want (by decide) ?_
            show wpC p (d + 13) 15 [ar p, al (fI w1 12 p)] w1 _
            rw [hwd]
            refine sC_named K1 ?_
            rw [if_neg hkf, u2, Int.toNat_natCast]
            refine fa ?_
            rw [if_pos hne0]
            exact sC_needOk (by decide) ⟨hht.1, fun _ _ => hht.2, hh⟩
          by_cases hok : tA τ0 14 u = 0 ∧ (late = 0 ∨ slN τ0 u (nK τ0) ≠ 0)
          · -- it comes under it
            obtain ⟨σ1, hσ1⟩ : ∃ σ1, σ1 = sA σ 13 (nK τ0) u := ⟨_, rfl⟩
            have F1 : FT [13] σ σ1 := by rw [hσ1]; exact (FT.refl _ σ).ssA (by simp)
            have kσ1 : KSm (nK τ0) τ σ1 := (KSm.ft c1.2.2.2.1 (by decide)).trans (fun u hu => by
              rw [hσ1]
              exact ⟨by rw [tA_sA, if_neg (by omega)], by rw [tA_sA, if_neg (by omega)], by rw [tA_sA, if_neg (by omega)], fun i hi => by rw [tA_sA, if_neg (by omega)]⟩)
            have g1' : RB p w1 σ1 := g1.ft F1 (fun f hf => by rw [List.mem_singleton.mp hf]; decide)
            have N2 : NewK τ0 σ1 v u := by
              obtain ⟨n1, n2, n3, n4, n5⟩ := N1
              rw [hσ1]
              refine ⟨n1, n2, fun j => ?_, n4, n5⟩
              rw [tA_sA]
              by_cases y : j = nK τ0
              · rw [if_pos ⟨rfl, by rw [y]⟩, if_pos y]
              · rw [if_neg (by omega), if_neg y]
                have := n3 j
                rw [if_neg y] at this
                exact this
            obtain ⟨w2, σ2, c2, p2, run2, g2⟩ := nx (d := d + 1) (e := e + 1) (T := []) (S := [9, 10, 11, 12, 13, 14]) (S' := [2, 3, 4, 5, 6]) g1' (by rw [(F1 3 (by decide)).1]; omega) (fun f hf => hf) (fun f hf => hf) (by
              unfold Rm pot at *
              rw [(F1 5 (by decide)).1, (F1 1 (by decide)).1]
              omega)
            have c01 : CF p T S S' w τ w1 σ1 := ⟨c1'.1, c1'.2.1, c1'.2.2.1, c1'.2.2.2.1.trans (F1.mono (fun f hf => hS' f (by rw [List.mem_singleton.mp hf]; decide))), by rw [(F1 5 (by decide)).1]; exact c1'.2.2.2.2.1, by rw [(F1 1 (by decide)).1]; exact c1'.2.2.2.2.2⟩
            have c02 := c01.trans c2 (fun r hr => by cases hr) hSl (fun f hf => hS' f (by simp at hf ⊢; omega))
            have hp1 : pot w1 σ1 = pot w1 σ := by unfold pot; rw [(F1 5 (by decide)).1, (F1 1 (by decide)).1]
            have cm6 : ∀ (Q : CW → Prop) (X : Nat → CW → Prop), wpC p (d + 13) 4 [ar p] w1 (zqV (fun u90 =>
                    pC_X0_readKind_197 p (wpC p (d + 13)) Q X v (kd w1 p u) u90) (fun x92 u93 =>
                    X x92 u93)) → (late = 0 →
              pC_X0_readKind_92 p (wpC p (d + 13)) Q X late v 0 p w) ∧
            (¬ (late = 0) →
              wpC p (d + 13) 12 [ar p, ar (sr w 4)] w (zqI (fun v114 u113 =>
                (v114 = 0 →
                  pC_X0_readKind_97 p (wpC p (d + 13)) Q X late v 0 0 p u113) ∧
                (¬ (v114 = 0) →
                  pC_X0_readKind_92 p (wpC p (d + 13)) Q X late v 0 p u113)) zno)) := by
              intro Q X hh
              refine cm Q X (g4 _ (cm5 Q X (fa ?_)))
              rw [hmany, hse, if_pos hok]
              exact sC_needOk (by decide) hh
            have tm6 : ∀ Q : TW → Prop, pT_readKind_142 (wpT (e + 6)) Q (nK τ0) σ2 → ((ff_isWord 1 τ) = 0 →
        (late = 0 →
          pT_readKind_142 (wpT (e + 6)) Q (nK τ0) τ) ∧
        (¬ (late = 0) →
          wpT (e + 6) 12 [ai 2] τ (zqV (fun u46 =>
            pT_readKind_142 (wpT (e + 6)) Q (nK τ0) u46) zno))) ∧
      (¬ ((ff_isWord 1 τ) = 0) →
        wpT (e + 6) 15 [ai (nK τ0), ai late] τ (zqV (fun u47 =>
          pT_readKind_142 (wpT (e + 6)) Q (nK τ0) u47) zno)) := by
              intro Q hh
              have h83 : pT_readUnder_83 (wpT (e + 5)) (fun u => pT_readKind_142 (wpT (e + 6)) Q (nK τ0) u) (nK τ0) (u : Int) σ := by
                refine ⟨⟨by omega, by omega⟩, fa ?_⟩
                rw [show sA σ 13 (nK τ0 : Int) (u : Int) = σ1 from hσ1.symm]
                exact run2 _ hh
              refine ⟨fun y => absurd y z0, fun _ => tm _ ⟨fun _ => sT_kindOf hK1.1 hK1.2 ⟨fun y => ?_, fun _ => ⟨?_, fun y => ?_, fun _ => ⟨fun _ => ?_, fun y => sT_isSealed hK1.1 hK1.2 ⟨fun x => ?_, fun _ => ?_⟩⟩⟩⟩, fun y => absurd h2' y⟩⟩
              · rw [ek1] at y; omega
              · rw [ek1]; omega
              · rw [ek1, hpm, hok.1] at y; omega
              · rw [ek1]; exact h83
              · rw [ek1, slN_new N1 hk0] at x
                rcases hok.2 with q | q
                · exact absurd q y
                · exact absurd x q
              · rw [ek1]; exact h83
            rcases g2 with ⟨rb2, k2⟩ | ⟨hh, pl, x, wr2, dd2, k2⟩
            · have K2 : KR p w2 τ0 := KR.fr W1 K1 c2.1 c2.2.1 (fun r hr => by cases hr) (by decide) (by decide) (FT.refl [] τ0) (fun f hf => by cases hf)
              have ekd2 : kd w2 p u = kd w1 p u := KRs.kd_fr W1 K1 c2.1 c2.2.1 (fun r hr => by cases hr) (by decide) u
              have e0 : fR w2 0 p = fR w 0 p := ((c2.2.1 0 (by decide)).2).trans ((c1.2.1 0 (by decide)).2)
              obtain ⟨w3, τ3, b3, c3, run3, g3⟩ := rk_197 (d := d) (e := e) (x4 := kd w1 p u) (uv := u) (T := T) (S := S) (S' := S') rb2 K2 hn (N2.ft c2.2.2.2.1 (fun f hf => by simp at hf; omega)) hv (Or.inr ⟨u, u1, ekd2.symm, rfl, hok.1⟩) (by rcases hok.2 with q | q; exact Or.inl (by rw [ekd]; exact hT q u u1); exact Or.inr (Or.inr ⟨u, u1, ekd2.symm, (slN_01 (τ := τ0) (u : Int) (nK τ0)).resolve_left q⟩)) (by rw [e0]; exact hT0) hS h0S (fun f hf => hS' f (by simp at hf ⊢; omega)) (by
                unfold Rm at *
                rw [c2.1.emu, c2.1.emz]
                omega)
              refine ⟨w3, τ3, (), ⟨c02.trans c3.1 (fun r hr => Or.inl hr) (fun f hf => hf) (fun f hf => hf), fun u hu => (c3.2.1 u hu).trans ((KRs.kd_fr W1 K1 c2.1 c2.2.1 (fun r hr => by cases hr) (by decide) u).trans (kd1 u)), (kσ1.trans (KSm.ft c2.2.2.2.1 (by decide))).trans c3.2.2⟩, fun Q hQ => tm6 _ (run3 Q hQ), ?_⟩
              rcases g3 with ⟨a, q1, q2, q3, q4⟩ | ⟨hh, pl, x, q1, q2, q3, q4⟩
              · exact Or.inl ⟨(), q1, by omega, q3, fun Q X hQ => cm6 _ X (k2 _ (q4 Q X hQ))⟩
              · exact Or.inr ⟨hh, pl, x, by omega, q2, q3, fun Q X hX => cm6 _ X (k2 _ (q4 Q X hX))⟩
            · obtain ⟨τ3, ⟨a2, b2⟩, run3⟩ := dk_142 (e := e + 2) (k := (nK τ0 : Int)) dd2
              refine ⟨w2, τ3, (), ⟨⟨c02.1, c02.2.1, c02.2.2.1, c02.2.2.2.1.trans (a2.mono (fun f hf => hS' f (by simp at hf ⊢; omega))), by rw [(a2 5 (by decide)).1]; exact c02.2.2.2.2.1, by rw [(a2 1 (by decide)).1]; exact c02.2.2.2.2.2⟩, fun u hu => (KRs.kd_fr W1 K1 c2.1 c2.2.1 (fun r hr => by cases hr) (by decide) u).trans (kd1 u), (kσ1.trans (KSm.ft c2.2.2.2.1 (by decide))).trans (KSm.ft a2 (by decide))⟩, fun Q hQ => tm6 _ (run3 _ hQ), Or.inr ⟨hh, pl, x, ?_, wr2, b2, fun Q X hX => cm6 _ X (k2 _ hX)⟩⟩
              have : pot w2 τ3 = pot w2 σ2 := by unfold pot; rw [(a2 5 (by decide)).1, (a2 1 (by decide)).1]
              omega
          · -- it can't come under it
            obtain ⟨τ3, q1, q2, q3, q4, q6, q5⟩ := ftl 5 (by decide)
            refine thr (how := 5) (by decide) q1 q2 q3 q4 q6 (fun Q X hX => cm5 Q X (fa ?_)) (fun Q hQ => ⟨fun _ => sT_kindOf hK1.1 hK1.2 ⟨fun y => ?_, fun _ => ⟨?_, fun _ => q5 Q hQ, fun y => ⟨fun x => ?_, fun x => sT_isSealed hK1.1 hK1.2 ⟨fun _ => q5 Q hQ, fun b => ?_⟩⟩⟩⟩, fun y => absurd h2' y⟩)
            · rw [hmany, hse, if_neg hok, g1.pl]
              exact sC_needNo rfl hroom1 hX
            · rw [ek1] at y; omega
            · rw [ek1]; omega
            · exfalso
              rw [ek1, hpm] at y
              exact hok ⟨by omega, Or.inl x⟩
            · exfalso
              rw [ek1, hpm] at y
              rw [ek1, slN_new N1 hk0] at b
              exact hok ⟨by omega, Or.inr b⟩
      · -- no kind's name
        have h2' : ¬ (tI σ 3 = 2) := h2
        obtain ⟨τ1, ⟨a1, b1, d1⟩, r1⟩ := RB.stop (e := e + 3) g1 (k := 2) (by decide)
        obtain ⟨f1, f2, f3⟩ := ft78 a1
        obtain ⟨τ3, q1, q2, q3, q4, q6, q5⟩ := dead b1 f1 f2 f3 (KSm.ft a1 (by decide))
        refine thr (how := 2) (by decide) q1 q2 q3 q4 q6 (fun Q X hX => fa ?_) (fun Q hQ => ⟨fun y => absurd y h2', fun _ => r1 _ (q5 Q hQ)⟩)
        rw [g1.ty, if_neg h2]
        refine sC_wantNo rfl hroom1 ?_
        rw [g1.pl]
        exact hX
    · -- a wrong token
      have h7 : tI σ 3 = 7 := by
        rcases g3 with ⟨a, b, c⟩ | ⟨a, b, c, e, -⟩
        · omega
        · exact b
      have h7' : ¬ (tI σ 3 = 2) := by
        have : tI σ 3 = 7 := h7
        omega
      obtain ⟨τ1, ⟨a1, b1, d1⟩, r1⟩ := dd_stop (d := e + 3) (k := 2) g3 (by decide)
      obtain ⟨f1, f2, f3⟩ := ft78 a1
      obtain ⟨τ3, q1, q2, q3, q4, q6, q5⟩ := dead b1 f1 f2 f3 (KSm.ft a1 (by decide))
      refine ⟨w1, τ3, (), ⟨⟨c1'.1, c1'.2.1, c1'.2.2.1, q1, by rw [q2]; exact c1'.2.2.2.2.1, by rw [q3]; exact c1'.2.2.2.2.2⟩, fun u _ => kd1 u, q6⟩, fun Q hQ => ⟨fun y => absurd y z0, fun _ => tm _ ⟨fun y => absurd y h7', fun _ => r1 _ (q5 _ hQ)⟩⟩, Or.inr ⟨hh, pl, x, ?_, g2, q4, fun Q X hX => cm _ X (g4 _ hX)⟩⟩
      have : pot w1 τ3 = pot w1 σ := by unfold pot; rw [q2, q3]
      omega
end ZRKind4
