/-! the reference's trees: the branches of a place, whole -/
section ZBranch3
variable {p b e d f : Nat} {w : CW} {τ σ : TW}
theorem SF1.ft {S : List Nat} {ρ : TW} {P : Sp} {rs : List (Nat × Nat)} {i : Nat} {x : Nat × Nat} (h : SF1 τ σ P rs i x) (F : FT S σ ρ) (hS : 69 ∉ S ∧ 70 ∉ S) : SF1 τ ρ P rs i x := by
  have n69 := (F 69 hS.1).2
  have n70 := (F 70 hS.2).2
  unfold SF1
  simp only [n69, n70]
  exact h
/-- a row's part of a fold -/
noncomputable def lfS (τ : TW) (P : Sp) (π : Pa) (stp : List Int → Nat → List Int) (acc : List Int) (x : Nat × Nat) : List Int := match lfq τ P x π with | some q => stp acc q | none => acc
theorem fil_take {α : Type} {c : α → Prop} {l : List α} {i : Nat} {x : α} (h : l[i]? = some x) : fil c (l.take (i + 1)) = fil c (l.take i) ++ fil c [x] := by
  have hl := (List.getElem?_eq_some_iff.mp h).1
  have hx : l[i] = x := (List.getElem?_eq_some_iff.mp h).2
  rw [List.take_succ_eq_append_getElem hl, hx, fil_append]
theorem lb_go {P : Sp} {rs : List (Nat × Nat)} {π : Pa} {St : List Int → TW → Prop} {stp : List Int → Nat → List Int} (hC : CX τ f rs) (hR : RLy τ σ rs) (hS : SFS τ σ P rs) (ho : opn τ P π) {x2 : Int} {Q : TW → Prop}
    (hproc : ∀ (acc : List Int) (q : Nat) (σ1 : TW), FT SBr σ σ1 → St acc σ1 → acc.length ≤ 80 → q < 800 → (∃ x, x ∈ rs ∧ (π, q) ∈ tsR τ x.1 x.2) → ∀ K : TW → Prop, (∀ σ2, FT SBr σ1 σ2 → St (stp acc q) σ2 → K σ2) → (x2 = 0 → (0 ≤ ((q : Nat) : Int) ∧ ((q : Nat) : Int) < 1700) ∧ wpT d 60 [al (tA σ1 19 q)] σ1 (zqV (fun u21 => (0 ≤ ((q : Nat) : Int) ∧ ((q : Nat) : Int) < 1700) ∧ wpT d 60 [al (w64 ((tA u21 20 q) + 1))] u21 (zqV (fun u23 => K u23) zno)) zno)) ∧ (¬ (x2 = 0) → (0 ≤ ((q : Nat) : Int) ∧ ((q : Nat) : Int) < 1700) ∧ wpT d 61 [al (tA σ1 21 q)] σ1 (zqV (fun u18 => K u18) zno)))
    (hlen : ∀ acc q, (stp acc q).length ≤ acc.length + 2) (h0 : St [] σ) (hQ : ∀ σ', FT SBr σ σ' → St ((rws τ rs P).foldl (lfS τ P π stp) []) σ' → pT_layBranches_215 (wpT d) Q x2 σ') : pT_layBranches_91 (wpT d) Q (cod π : Nat) x2 0 σ := by
  obtain ⟨⟨c1, c2, c3, c4⟩, c5, c6, c7⟩ := id hC
  refine bT_layBranches_91 ?_
  intro I hI
  have outer : ∀ n i : Nat, i + n = rs.length → ∀ σ1, FT SBr σ σ1 → St ((fil (liv τ P) (rs.take i)).foldl (lfS τ P π stp) []) σ1 → ((fil (liv τ P) (rs.take i)).foldl (lfS τ P π stp) []).length ≤ 2 * i → I (i : Nat) σ1 := by
    intro n
    induction n with
    | zero =>
      intro i hi σ1 F hSt _
      have hi : i = rs.length := by omega
      subst hi
      rw [List.take_length] at hSt
      have hR1 := hR.ft F (by decide)
      exact hI _ _ (br1 (by rw [hR1.1]; exact Int.le_refl _) (hQ σ1 F hSt))
    | succ n ih =>
      intro i hi σ1 F hSt hln
      have hil : i < rs.length := by omega
      obtain ⟨x, hx⟩ : ∃ x, rs[i]? = some x := ⟨rs[i], List.getElem?_eq_getElem hil⟩
      have hxm : x ∈ rs := List.mem_of_getElem? hx
      obtain ⟨x1, x2', m, hRP, hSo⟩ := c7 x hxm
      have hR1 := hR.ft F (by decide)
      obtain ⟨y1, y2, y3, y4⟩ := hR1.2.2.2 i x hx
      have offb := off_mono (τ := τ) rs hx
      obtain ⟨acc, hacc⟩ : ∃ acc, acc = (fil (liv τ P) (rs.take i)).foldl (lfS τ P π stp) [] := ⟨_, rfl⟩
      rw [← hacc] at hSt hln
      have ft1 := fil_take (c := liv τ P) hx
      refine hI _ _ (br0 (by rw [hR1.1]; omega) ⟨by omega, ?_⟩)
      rw [y3]
      refine fa (bT_layBranches_107 ?_)
      intro J hJ
      have done : ∀ σ2, FT SBr σ σ2 → St ((fil (liv τ P) (rs.take (i + 1))).foldl (lfS τ P π stp) []) σ2 → ((fil (liv τ P) (rs.take (i + 1))).foldl (lfS τ P π stp) []).length ≤ 2 * (i + 1) → pT_layBranches_209 (wpT d) Q I (cod π : Nat) x2 (i : Nat) σ2 := fun σ2 F2 h2 h3 => by
        refine bT_layBranches_209 (call := wpT d) (fa ?_)
        rw [w32_s (by omega) (by omega)]
        have := ih (i + 1) (by omega) σ2 F2 h2 h3
        exact this
      have sf := hS i x hx
      by_cases hl : liv τ P x
      · have fl : fil (liv τ P) [x] = [x] := fil_cons_1 hl
        rw [fl] at ft1
        have efold : (fil (liv τ P) (rs.take (i + 1))).foldl (lfS τ P π stp) [] = lfS τ P π stp acc x := by
          rw [ft1, List.foldl_append, ← hacc]
          rfl
        rw [efold] at done
        -- a test that is passed by
        have skip : ∀ (j : Nat) (e : Pa × Nat) (σ2 : TW), FT SBr σ σ2 → (tsR τ x.1 x.2)[j]? = some e → (stn τ P e = 0 → cod e.1 ≠ cod π) → J ((off τ rs i + (j + 1) : Nat) : Int) σ2 → J ((off τ rs i + j : Nat) : Int) σ2 := by
          intro j e σ2 F2 he hno hJ2
          have hjl := (List.getElem?_eq_some_iff.mp he).1
          have to2 := (hR.ft F2 (by decide)).to hx
          obtain ⟨t1, t2, t3⟩ := ((hR.ft F2 (by decide)).2.2.2 i x hx).2.2.2 j e he
          have sf2 := sf.ft F2 (by decide)
          obtain ⟨s1, s2⟩ := sf2.2.2 hl j e he
          have al := sf2.2.1.mpr hl
          have n2 := hl.2 e (List.mem_of_getElem? he)
          have s012 := stn_le (τ := τ) (P := P) (e := e)
          refine hJ _ _ ?_
          rw [w32_s (a := (i : Int) + 1) (by omega) (by omega), show ((i : Int) + 1) = ((i + 1 : Nat) : Int) by omega, to2]
          refine ⟨by omega, fun _ => by omega, br1 ⟨by omega, by omega⟩ ⟨by omega, fun _ => by omega, br0 (fun q => ?_) (bT_layBranches_203 (call := wpT d) (fa ?_))⟩⟩
          · rw [t2] at q
            have : stn τ P e ≠ 1 := fun y => by have := s2.mpr y; omega
            exact hno (by omega) (by omega)
          · rw [w32_s (by omega) (by omega)]
            exact hJ2
        -- the row's end
        have fin : ∀ (σ2 : TW), FT SBr σ σ2 → pT_layBranches_209 (wpT d) Q I (cod π : Nat) x2 (i : Nat) σ2 → J ((off τ rs i + (tsR τ x.1 x.2).length : Nat) : Int) σ2 := by
          intro σ2 F2 hh
          have to2 := (hR.ft F2 (by decide)).to hx
          refine hJ _ _ ?_
          rw [w32_s (a := (i : Int) + 1) (by omega) (by omega), show ((i : Int) + 1) = ((i + 1 : Nat) : Int) by omega, to2]
          exact ⟨by omega, fun _ => by omega, br0 (fun q => q.1 (by omega)) hh⟩
        -- tests of a stretch that are passed by
        have run : ∀ n2 j : Nat, j + n2 ≤ (tsR τ x.1 x.2).length → ∀ σ2, FT SBr σ σ2 → (∀ j' e, j ≤ j' → j' < j + n2 → (tsR τ x.1 x.2)[j']? = some e → stn τ P e = 0 → cod e.1 ≠ cod π) → J ((off τ rs i + (j + n2) : Nat) : Int) σ2 → J ((off τ rs i + j : Nat) : Int) σ2 := by
          intro n2
          induction n2 with
          | zero => intro j _ σ2 _ _ h; exact h
          | succ n2 ih2 =>
            intro j hj σ2 F2 hno h
            have hjl : j < (tsR τ x.1 x.2).length := by omega
            refine skip j _ σ2 F2 (List.getElem?_eq_getElem hjl) (hno j _ (Nat.le_refl _) (by omega) (List.getElem?_eq_getElem hjl)) ?_
            refine ih2 (j + 1) (by omega) σ2 F2 (fun j' e h1 h2 => hno j' e (by omega) (by omega)) ?_
            rw [show j + 1 + n2 = j + (n2 + 1) by omega]
            exact h
        have hxe : x = (x.1, x.2) := rfl
        rcases lfq_cs c1 c2 hRP (by rw [← hxe]; exact hl) ho (way := x.2) with ⟨hn, hno⟩ | ⟨q, l1, l2, hq, hsp, hs0, hno⟩
        · have el : lfS τ P π stp acc x = acc := by unfold lfS; rw [hxe, hn]
          rw [el] at done
          have := run (tsR τ x.1 x.2).length 0 (by omega) σ1 F (fun j' e _ _ he => hno e (List.mem_of_getElem? he)) (by
            rw [Nat.zero_add]
            exact fin σ1 F (done σ1 F hSt (by omega)))
          exact this
        · have el : lfS τ P π stp acc x = stp acc q := by unfold lfS; rw [hxe, hq]
          rw [el] at done
          have hlt : (tsR τ x.1 x.2).length = l1.length + (l2.length + 1) := by rw [hsp, List.length_append]; rfl
          have g1 : (tsR τ x.1 x.2)[l1.length]? = some (π, q) := by
            rw [hsp, List.getElem?_append_right (Nat.le_refl _), Nat.sub_self]; rfl
          have := run l1.length 0 (by omega) σ1 F (fun j' e _ h2 he => by
            rw [hsp, List.getElem?_append_left (by omega)] at he
            exact hno e (Or.inl (List.mem_of_getElem? he))) (by
            rw [Nat.zero_add]
            have to2 := hR1.to hx
            obtain ⟨t1, t2, t3⟩ := y4 l1.length (π, q) g1
            have sf2 := sf.ft F (by decide)
            obtain ⟨s1, s2⟩ := sf2.2.2 hl l1.length (π, q) g1
            have al := sf2.2.1.mpr hl
            have n2 := hl.2 (π, q) (List.mem_of_getElem? g1)
            refine hJ _ _ ?_
            rw [w32_s (a := (i : Int) + 1) (by omega) (by omega), show ((i : Int) + 1) = ((i + 1 : Nat) : Int) by omega, to2]
            have z0 : tA σ1 69 ((off τ rs i + l1.length : Nat) : Int) = 0 := by
              rcases s1 with y | y
              · exact y
              · have := s2.mp y
                omega
            refine ⟨by omega, fun _ => by omega, br1 ⟨by omega, by omega⟩ ⟨by omega, fun _ => by omega, br1 ⟨t2, z0⟩ ⟨by omega, ?_⟩⟩⟩
            rw [t3]
            refine fa ?_
            have hq8 := (hC.t hxm (List.mem_of_getElem? g1)).1
            refine hproc acc q σ1 F hSt (by omega) hq8 ⟨x, hxm, List.mem_of_getElem? g1⟩ (fun u => pT_layBranches_203 (wpT d) Q I J (cod π : Nat) x2 (i : Nat) ((off τ rs i + l1.length : Nat) : Int) u) (fun σ2 F2 hSt2 => ?_)
            refine bT_layBranches_203 (call := wpT d) (fa ?_)
            rw [w32_s (by omega) (by omega)]
            have := run l2.length (l1.length + 1) (by omega) σ2 (F.trans F2) (fun j' e h1 h2 he => by
              rw [hsp, List.getElem?_append_right (by omega)] at he
              obtain ⟨j2, rfl⟩ : ∃ j2, j' = l1.length + 1 + j2 := ⟨j' - (l1.length + 1), by omega⟩
              rw [show l1.length + 1 + j2 - l1.length = j2 + 1 by omega] at he
              have he : l2[j2]? = some e := by simpa using he
              exact hno e (Or.inr (List.mem_of_getElem? he))) (by
              rw [show l1.length + 1 + l2.length = (tsR τ x.1 x.2).length by omega]
              exact fin σ2 (F.trans F2) (done σ2 (F.trans F2) hSt2 (by have := hlen acc q; omega)))
            exact this)
          exact this
      · have fl : fil (liv τ P) [x] = [] := fil_cons_0 hl
        rw [fl, List.append_nil] at ft1
        rw [ft1, ← hacc] at done
        have sf2 := sf.ft F (by decide)
        have a0 : tA σ1 70 i = 0 := by
          rcases sf2.1 with q | q
          · exact q
          · exact absurd (sf2.2.1.mp q) hl
        have to2 := hR1.to hx
        refine hJ _ _ ?_
        rw [w32_s (a := (i : Int) + 1) (by omega) (by omega), show ((i : Int) + 1) = ((i + 1 : Nat) : Int) by omega, to2]
        exact ⟨by omega, fun _ => by omega, br0 (fun q => q.2 a0) (done σ1 F hSt (by omega))⟩
  exact outer rs.length 0 (by omega) σ (FT.refl _ _) h0 (by simp [fil])
end ZBranch3
