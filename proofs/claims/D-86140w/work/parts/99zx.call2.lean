/-! a call's names come to the rule -/
section ZCall2
variable {p b e d : Nat} {w : CW} {τ : TW}
theorem OUTb.hb {α β : Type} {T S S' : List Nat} {a t : Int} {N : α → β → CW → TW → Prop} {cm : (α → CW → Prop) → (Nat → CW → Prop) → Prop} {tm : (β → TW → Prop) → Prop} (h : b ≤ cz w → OUTb p b T S S' a t N cm tm w τ) : OUTb p b T S S' a t N cm tm w τ := fun hb => h hb hb
def cpW (u : CW) (x ha wh m : Nat) : CW := qC (qC (pR (nA (pR (nA u 102 m) 62 x (cz u + 1)) 102 m) 65 x (cz u + 2)) ha 0 (cz u + 1) 0 m) wh 0 (cz u + 2) 0 m
theorem cpW_fr {u : CW} {x ha wh m : Nat} (W : WF p u) (hpx : p ≠ x) : Fr [x] u (cpW u x ha wh m) ∧ PF [] p u (cpW u x ha wh m) ∧ WF p (cpW u x ha wh m) ∧ cz (cpW u x ha wh m) = cz u + 2 ∧ cu (cpW u x ha wh m) = cu u + m + m := by
  refine ⟨?_, ?_, ?_, rfl, rfl⟩
  · exact ((((((Fr.refl [x] u).snA).spR (Or.inl (by simp))).snA).spR (Or.inl (by simp))).sqC (Or.inr (by omega))).sqC (Or.inr (by omega))
  · exact (((((PF.refl [] p u).snA).spR (Or.inr hpx)).snA).spR (Or.inr hpx) : PF [] p u (pR (nA (pR (nA u 102 m) 62 x (cz u + 1)) 102 m) 65 x (cz u + 2)))
  · exact (((((W.snA 102 m).spR _ _ _).snA 102 m).spR _ _ _).sqC _ _ _ _ _).sqC _ _ _ _ _
theorem cpW_at {u : CW} {x ha wh m : Nat} (ha1 : ha ≤ cz u) (hb1 : wh ≤ cz u) (hx : x ≤ cz u) : fR (cpW u x ha wh m) 62 x = cz u + 1 ∧ fR (cpW u x ha wh m) 65 x = cz u + 2 ∧ tg (cpW u x ha wh m) (cz u + 1) = 102 ∧ ln (cpW u x ha wh m) (cz u + 1) = m ∧ tg (cpW u x ha wh m) (cz u + 2) = 102 ∧ ln (cpW u x ha wh m) (cz u + 2) = m ∧ (∀ f, f ≠ 62 → f ≠ 65 → fR (cpW u x ha wh m) f x = fR u f x) ∧ (∀ f, fI (cpW u x ha wh m) f x = fI u f x) ∧ (∀ j : Nat, j < m → aI (cpW u x ha wh m) (cz u + 1) j = aI u ha j ∧ aI (cpW u x ha wh m) (cz u + 2) j = aI u wh j) := by
  have c2 : cz (pR (nA u 102 m) 62 x (cz u + 1)) = cz u + 1 := rfl
  refine ⟨?_, ?_, ?_, ?_, ?_, ?_, fun f h1 h2 => ?_, fun f => rfl, fun j hj => ⟨?_, ?_⟩⟩
  · show fR (pR (nA (pR (nA u 102 m) 62 x (cz u + 1)) 102 m) 65 x (cz u + 2)) 62 x = _
    rw [fR_of _ _ _ _ (by decide)]
    exact fR_at _ _ _ _
  · exact fR_at _ _ _ _
  · show tg (nA (pR (nA u 102 m) 62 x (cz u + 1)) 102 m) (cz u + 1) = 102
    rw [tg_nA, c2, if_neg (by omega)]
    show tg (nA u 102 m) (cz u + 1) = 102
    rw [tg_nA, if_pos rfl]
  · show ln (nA (pR (nA u 102 m) 62 x (cz u + 1)) 102 m) (cz u + 1) = m
    rw [ln_nA, c2, if_neg (by omega)]
    show ln (nA u 102 m) (cz u + 1) = m
    rw [ln_nA, if_pos rfl]
  · show tg (nA (pR (nA u 102 m) 62 x (cz u + 1)) 102 m) (cz u + 2) = 102
    rw [tg_nA, c2, if_pos rfl]
  · show ln (nA (pR (nA u 102 m) 62 x (cz u + 1)) 102 m) (cz u + 2) = m
    rw [ln_nA, c2, if_pos rfl]
  · show fR (pR (nA (pR (nA u 102 m) 62 x (cz u + 1)) 102 m) 65 x (cz u + 2)) f x = _
    rw [fR_of _ _ _ _ h2]
    show fR (pR (nA u 102 m) 62 x (cz u + 1)) f x = _
    rw [fR_of _ _ _ _ h1]
    rfl
  · unfold cpW
    rw [aI_qC, if_neg (by omega), aI_qC, if_pos ⟨rfl, by omega, by omega⟩]
    show aI (nA (pR (nA u 102 m) 62 x (cz u + 1)) 102 m) ha _ = _
    rw [aI_nA, c2, if_neg (by omega)]
    show aI (nA u 102 m) ha _ = _
    rw [aI_nA, if_neg (by omega)]
    congr 1
    omega
  · unfold cpW
    rw [aI_qC, if_pos ⟨rfl, by omega, by omega⟩, aI_qC, if_neg (by omega)]
    show aI (nA (pR (nA u 102 m) 62 x (cz u + 1)) 102 m) wh _ = _
    rw [aI_nA, c2, if_neg (by omega)]
    show aI (nA u 102 m) wh _ = _
    rw [aI_nA, if_neg (by omega)]
    congr 1
    omega
/-- the end of a call -/
theorem an_end {x ha wh R m : Nat} (hb : b ≤ cz w) (rb : RB p w τ) (hx : tg w x = 5) (hpx : p + 8 < x) (hA : IArr p w ha 800) (hB : IArr p w wh 800) (m1 : 1 ≤ m) (m8 : m ≤ 800) (e58 : tA τ 58 R = m) (hl : HL w τ ha wh R m) (hR : Rm 4000 w τ) :
    OUTb p b [x] [9, 10, 11, 12, 13, 14] [2, 3, 4, 5, 6, 7, 8, 58, 59, 60] 2000 2100 (fun (_ : Unit) (_ : Unit) w' τ' => CL p b w' τ' x R ∧ (∀ f, f ≠ 62 → f ≠ 65 → fR w' f x = fR w f x) ∧ (∀ f, fI w' f x = fI w f x) ∧ ∀ f, 54 ≤ f → ∀ y, tA τ' f y = tA τ f y) (fun Q X => pC_X0_answer_125 p (wpC p (d + 15)) (fun w => Q () w) (fun x w => X x w) x ha wh m w) (fun Q => wpT (e + 6) 20 [ai 41] τ (zqV (fun u => Q () u) zno)) w τ := by
  refine OUTb.bVV hR (OUT.skip (d := d + 2) (e := e) (T := []) (S := [9, 10, 11, 12, 13, 14]) (S' := [2, 3, 4, 5, 6, 7, 8]) (c := 41) rb (by decide) (fun f hf => hf) (fun f hf => hf) (hR.le (by decide))) (fun Q X h => bC_X0_answer_125 h) (fun Q h => h) (fun _ _ u σ rb1 _ c1 hR1 => ?_) (fun h pl σ D F => DD.ret (b := ()) D (fun Q h => h))
  have zx := rb.1.le (r := x) (by rw [hx]; decide)
  have za := rb.1.le (r := ha) (by rw [hA.1]; decide)
  have zb := rb.1.le (r := wh) (by rw [hB.1]; decide)
  have hz := c1.1.1
  have o : ∀ r, r ≤ cz w → r ≠ p → ob u r = ob w r := fun r hr hp => c1.1.2.2.2.2 r hr (by simp; exact hp)
  have ox := o x zx (by omega)
  have oa := o ha za (by have := hA.2.2; omega)
  have ow := o wh zb (by have := hB.2.2; omega)
  have tx : tg u x = 5 := by rw [ob.etg ox]; exact hx
  have ta : tg u ha = 102 := by rw [ob.etg oa]; exact hA.1
  have tw : tg u wh = 102 := by rw [ob.etg ow]; exact hB.1
  have la : ln u ha = 800 := by rw [ob.eln oa]; exact hA.2.1
  have lw : ln u wh = 800 := by rw [ob.eln ow]; exact hB.2.1
  have hroom := Rm.room rb1 hR1 (k := 2) (n := 1600) (by decide)
  obtain ⟨f1, f2, f3, f4, f5⟩ := cpW_fr (u := u) (x := x) (ha := ha) (wh := wh) (m := m) rb1.1 (by omega)
  obtain ⟨g1, g2, g3, g4, g5, g6, g7, g8, g9⟩ := cpW_at (u := u) (x := x) (ha := ha) (wh := wh) (m := m) (by omega) (by omega) (by omega)
  have c2 : cz (pR (nA u 102 m) 62 x (cz u + 1)) = cz u + 1 := rfl
  have t1 : ∀ r, r ≤ cz u → tg (nA u 102 m) r = tg u r ∧ ln (nA u 102 m) r = ln u r := fun r hr => ⟨by rw [tg_nA, if_neg (by omega)], by rw [ln_nA, if_neg (by omega)]⟩
  have t2 : ∀ r, r ≤ cz u → tg (nA (pR (nA u 102 m) 62 x (cz u + 1)) 102 m) r = tg u r ∧ ln (nA (pR (nA u 102 m) 62 x (cz u + 1)) 102 m) r = ln u r := fun r hr => ⟨by rw [tg_nA, c2, if_neg (by omega)]; exact (t1 r hr).1, by rw [ln_nA, c2, if_neg (by omega)]; exact (t1 r hr).2⟩
  have hx1 : tg (nA u 102 m) x = 5 := (t1 x (by omega)).1.trans tx
  have hx2 : tg (nA (pR (nA u 102 m) 62 x (cz u + 1)) 102 m) x = 5 := (t2 x (by omega)).1.trans tx
  have ta2 := t2 ha (by omega)
  have tw2 := t2 wh (by omega)
  have r62 : fR (pR (nA (pR (nA u 102 m) 62 x (cz u + 1)) 102 m) 65 x (cz u + 2)) 62 x = cz u + 1 := g1
  have r65 : fR (pR (nA (pR (nA u 102 m) 62 x (cz u + 1)) 102 m) 65 x (cz u + 2)) 65 x = cz u + 2 := g2
  refine OUTb.cM (T1 := [x]) (S1 := []) (k := 1610) (w' := cpW u x ha wh m) (cm' := fun Q X => Q () (cpW u x ha wh m)) hR1 rb1 (f1.mono (fun r hr => Or.inl (List.mem_cons.mpr (Or.inr hr)))) f2 f3 (by unfold zm; rw [f4, f5]; omega) (by decide) (fun Q X h => ?_) (fun r hr => ?_) (fun rb2 c3 hR2 => ?_)
  · refine ⟨⟨⟨by omega, by omega⟩, by omega, by have : Int.toNat (m : Int) = m := rfl; omega⟩, fa ⟨by show hP 62 (tg (nA u 102 m) x) = true; rw [hx1]; decide, fa ⟨⟨⟨by omega, by omega⟩, ?_, ?_⟩, fa ⟨by show hP 65 (tg (nA (pR (nA u 102 m) 62 x (cz u + 1)) 102 m) x) = true; rw [hx2]; decide, fa ⟨by show hF 62 (tg (nA (pR (nA u 102 m) 62 x (cz u + 1)) 102 m) x) = true; rw [hx2]; decide, ⟨⟨by decide, by decide, by omega, ?_, ?_⟩, ?_⟩, fa ⟨by show hF 65 (tg (nA (pR (nA u 102 m) 62 x (cz u + 1)) 102 m) x) = true; rw [hx2]; decide, ⟨⟨by decide, by decide, by omega, ?_, ?_⟩, ?_⟩, fa ?_⟩⟩⟩⟩⟩⟩
    · show cz u + 1 + 1 ≤ mz u; omega
    · show cu u + m + m ≤ mu u; omega
    · show (0 : Int) + m ≤ (ln (nA (pR (nA u 102 m) 62 x (cz u + 1)) 102 m) ha : Nat)
      rw [ta2.2, la]; omega
    · show (0 : Int) + m ≤ (ln (nA (pR (nA u 102 m) 62 x (cz u + 1)) 102 m) (fR (pR (nA (pR (nA u 102 m) 62 x (cz u + 1)) 102 m) 65 x (cz u + 2)) 62 x) : Nat)
      rw [r62]
      have : ln (nA (pR (nA u 102 m) 62 x (cz u + 1)) 102 m) (cz u + 1) = m := g4
      rw [this]; omega
    · left
      refine ⟨ta2.1.trans ta, ?_⟩
      show tg (nA (pR (nA u 102 m) 62 x (cz u + 1)) 102 m) (fR (pR (nA (pR (nA u 102 m) 62 x (cz u + 1)) 102 m) 65 x (cz u + 2)) 62 x) = 102
      rw [r62]
      exact g3
    · show (0 : Int) + m ≤ (ln (nA (pR (nA u 102 m) 62 x (cz u + 1)) 102 m) wh : Nat)
      rw [tw2.2, lw]; omega
    · show (0 : Int) + m ≤ (ln (nA (pR (nA u 102 m) 62 x (cz u + 1)) 102 m) (fR (pR (nA (pR (nA u 102 m) 62 x (cz u + 1)) 102 m) 65 x (cz u + 2)) 65 x) : Nat)
      rw [r65]
      have : ln (nA (pR (nA u 102 m) 62 x (cz u + 1)) 102 m) (cz u + 2) = m := g6
      rw [this]; omega
    · left
      refine ⟨tw2.1.trans tw, ?_⟩
      show tg (nA (pR (nA u 102 m) 62 x (cz u + 1)) 102 m) (fR (pR (nA (pR (nA u 102 m) 62 x (cz u + 1)) 102 m) 65 x (cz u + 2)) 65 x) = 102
      rw [r65]
      exact g5
    · have e1 : qC (qC (pR (nA (pR (nA u 102 m) 62 x (cz u + 1)) 102 m) 65 x (cz u + 2)) ha 0 (fR (pR (nA (pR (nA u 102 m) 62 x (cz u + 1)) 102 m) 65 x (cz u + 2)) 62 x) 0 m) wh 0 (fR (pR (nA (pR (nA u 102 m) 62 x (cz u + 1)) 102 m) 65 x (cz u + 2)) 65 x) 0 m = cpW u x ha wh m := by
        rw [r62, r65]; rfl
      show Q () (qC (qC (pR (nA (pR (nA u 102 m) 62 x (cz u + 1)) 102 m) 65 x (cz u + 2)) ha 0 (fR (pR (nA (pR (nA u 102 m) 62 x (cz u + 1)) 102 m) 65 x (cz u + 2)) 62 x) 0 m) wh 0 (fR (pR (nA (pR (nA u 102 m) 62 x (cz u + 1)) 102 m) 65 x (cz u + 2)) 65 x) 0 m)
      rw [e1]
      exact h
  · rw [List.mem_singleton.mp hr]
    exact ⟨Or.inl (by simp), by omega, Or.inr ⟨by rw [tx]; decide, by omega⟩⟩
  · have t54 : ∀ f, 54 ≤ f → ∀ y, tA σ f y = tA τ f y := fun f hf => (c1.2.2.2.1 f (by simp only [List.mem_cons, List.not_mem_nil, or_false]; omega)).2
    have en : nN σ = nN τ := nN_ft c1.2.2.2.1 (by decide) (by decide)
    refine OUTb.ret (v := ()) (v' := ()) rb2 ⟨⟨m, cz u + 1, cz u + 2, m1, m8, by rw [t54 58 (by decide)]; exact e58, g1, g2, ⟨g3, g4, by have := hA.2.2; omega⟩, ⟨g5, g6, by have := hA.2.2; omega⟩, by omega, by omega, fun j hj => ?_⟩, fun f h1 h2 => by rw [g7 f h1 h2, ob.efR ox], fun f => by rw [g8, ob.efI ox], t54⟩ (fun Q X h => h) (fun Q h => h)
    obtain ⟨k, k1, k2, k3, k4⟩ := hl j hj
    rw [(g9 j hj).1, (g9 j hj).2, ob.eaI oa, ob.eaI ow, en, (c1.2.2.2.1 31 (by decide)).1, t54 59 (by decide), t54 60 (by decide)]
    exact ⟨k, k1, k2, k3, k4⟩
end ZCall2
