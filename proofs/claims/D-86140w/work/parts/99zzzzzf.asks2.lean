/-! the reference's trees: what is asked next (2) -/
section ZAsks2
variable {p b e d f : Nat} {w : CW} {τ σ : TW} {rs : List (Nat × Nat)}
/-- sorts of places of tests -/
def SPRs (τ : TW) (f : Nat) (rs : List (Nat × Nat)) : Prop := ∀ x, x ∈ rs → ∀ e, e ∈ tsR τ x.1 x.2 → 0 ≤ srP τ f e.1 ∧ srP τ f e.1 < 3 + nK τ
theorem sT_asksAt {P : Sp} {wy i : Nat} {x : Nat × Nat} (hC : CX τ f rs) (hE : PE τ σ) (h10 : 0 ≤ tI τ 10) (hsp : SPRs τ f rs) (hP : PSd τ f P) (hR : RLy τ σ rs) (hS : SFS τ σ P rs) (hx : rs[i]? = some x) (hl : liv τ P x) (hwy : wy ≤ 3) {Q : Int → TW → Prop}
    (hQ : ∀ (σ' : TW) (v : Int), FT SBr σ σ' → ((v = -4 ∧ chs τ wy P (rws τ rs P) (ask τ P x) = none) ∨ ∃ j e, v = ((off τ rs i + j : Nat) : Int) ∧ (tsR τ x.1 x.2)[j]? = some e ∧ e ∈ ask τ P x ∧ chs τ wy P (rws τ rs P) (ask τ P x) = some e) → Q v σ') : wpT (d + 4) 56 [ai i, ai wy] σ (zqI Q zno) := by
  obtain ⟨⟨c1, c2, c3, c4⟩, c5, c6, c7⟩ := id hC
  have hil := (List.getElem?_eq_some_iff.mp hx).1
  have hxm : x ∈ rs := List.mem_of_getElem? hx
  obtain ⟨x1, x2', m, hRP, hSo⟩ := c7 x hxm
  have hxe : x = (x.1, x.2) := rfl
  have offb := off_mono (τ := τ) rs hx
  obtain ⟨rows, hrows⟩ : ∃ rows, rows = rws τ rs P := ⟨_, rfl⟩
  rw [← hrows] at hQ
  obtain ⟨y1, y2, y3, y4⟩ := hR.2.2.2 i x hx
  refine wT_asksAt (Nat.zero_le _) (bT_asksAt_0 ⟨by omega, ?_⟩)
  rw [y3]
  refine fa (bT_asksAt_14 ?_)
  intro I hI
  have key : ∀ n j : Nat, j + n = (tsR τ x.1 x.2).length → ∀ (σ1 : TW) (x3 x4 : Int), FT SBr σ σ1 → (((fil (askC τ P x) ((tsR τ x.1 x.2).take j)) = [] ∧ x3 = -4 ∧ x4 = 0) ∨ ∃ jb eb, x3 = ((off τ rs i + jb : Nat) : Int) ∧ (tsR τ x.1 x.2)[jb]? = some eb ∧ eb ∈ fil (askC τ P x) ((tsR τ x.1 x.2).take j) ∧ chs τ wy P rows (fil (askC τ P x) ((tsR τ x.1 x.2).take j)) = some eb ∧ x4 = wth τ wy P rows eb) → I x3 x4 ((off τ rs i + j : Nat) : Int) σ1 := by
    intro n
    induction n with
    | zero =>
      intro j hj σ1 x3 x4 F hA
      have hj : j = (tsR τ x.1 x.2).length := by omega
      have to1 := (hR.ft F (by decide)).to hx
      refine hI _ _ _ _ ?_
      rw [w32_s (by omega) (by omega), show ((i : Int) + 1) = ((i + 1 : Nat) : Int) by omega, to1]
      refine ⟨by omega, br1 (by omega) (bT_asksAt_294 (call := wpT (d + 3)) (hQ σ1 x3 F ?_))⟩
      rw [hj, List.take_length] at hA
      have ea : fil (askC τ P x) (tsR τ x.1 x.2) = ask τ P x := ask_eq P x
      rw [ea] at hA
      rcases hA with ⟨a1, a2, a3⟩ | ⟨jb, eb, a1, a2, a3, a4, a5⟩
      · exact Or.inl ⟨a2, by rw [a1]; rfl⟩
      · exact Or.inr ⟨jb, eb, a1, a2, a3, a4⟩
    | succ n ih =>
      intro j hj σ1 x3 x4 F hA
      have hjl : j < (tsR τ x.1 x.2).length := by omega
      obtain ⟨e, he⟩ : ∃ e, (tsR τ x.1 x.2)[j]? = some e := ⟨(tsR τ x.1 x.2)[j], List.getElem?_eq_getElem hjl⟩
      have hem : e ∈ tsR τ x.1 x.2 := List.mem_of_getElem? he
      have hR1 := hR.ft F (by decide)
      have hS1 : SFS τ σ1 P rs := fun i x hx => (hS i x hx).ft F (by decide)
      have hE1 : PE τ σ1 := hE.trans (PE.ft F (by decide))
      have to1 := hR1.to hx
      obtain ⟨z1, z2, z3, z4⟩ := hR1.2.2.2 i x hx
      obtain ⟨t1, t2, t3⟩ := z4 j e he
      obtain ⟨u1, ⟨u2, u2'⟩, u3, u4, u5, u6, u7⟩ := hC.t hxm hem
      obtain ⟨s1, s2⟩ := (hS1 i x hx).2.2 hl j e he
      have n2 := hl.2 e hem
      have s012 := stn_le (τ := τ) (P := P) (e := e)
      have cl : cod e.1 < 2147483648 := by
        have := cod_lt u5
        have : 8 ^ e.1.length ≤ 8 ^ 7 := Nat.pow_le_pow_right (by decide) u6
        have : (8 : Nat) ^ 7 = 2097152 := by decide
        omega
      obtain ⟨k0, i0, σe, e1⟩ : ∃ k i σ, e.1 = (k, i) :: σ := by
        cases h : e.1 with
        | nil => exact absurd h u7
        | cons y s => exact ⟨y.1, y.2, s, rfl⟩
      have i07 : i0 < 7 := u5 (k0, i0) (by rw [e1]; exact List.mem_cons_self ..)
      have cdiv : cod e.1 / 8 = cod σe := by
        rw [e1]
        show (8 * cod σe + i0 + 1) / 8 = _
        omega
      have tk : (tsR τ x.1 x.2).take (j + 1) = (tsR τ x.1 x.2).take j ++ [e] := by
        rw [List.take_succ_eq_append_getElem hjl, (List.getElem?_eq_some_iff.mp he).2]
      -- passed by
      have nope : ¬ (stn τ P e = 0 ∧ ∀ e', e' ∈ tsR τ x.1 x.2 → stn τ P e' = 0 → ¬ abv e'.1 e.1) → pT_asksAt_288 (wpT (d + 3)) (fun v w => zqI Q zno (.inl (some (ai v))) w) I (i : Nat) (wy : Nat) x3 x4 ((off τ rs i + j : Nat) : Int) σ1 := fun hno => by
        refine bT_asksAt_288 (call := wpT (d + 3)) (fa ?_)
        rw [w32_s (by omega) (by omega)]
        have := ih (j + 1) (by omega) σ1 x3 x4 F (by
          rw [tk, fil_append, fil_cons_0 (c := askC τ P x) hno, fil_nil, List.append_nil]
          exact hA)
        exact this
      -- weighed
      have weigh : (stn τ P e = 0 ∧ ∀ e', e' ∈ tsR τ x.1 x.2 → stn τ P e' = 0 → ¬ abv e'.1 e.1) → ∀ σ2, FT SBr σ σ2 → pT_asksAt_259 (wpT (d + 3)) (fun v w => zqI Q zno (.inl (some (ai v))) w) I (i : Nat) (wy : Nat) x3 x4 ((off τ rs i + j : Nat) : Int) (wth τ wy P rows e) σ2 := fun hyes σ2 F2 => by
        have fl : fil (askC τ P x) ((tsR τ x.1 x.2).take (j + 1)) = fil (askC τ P x) ((tsR τ x.1 x.2).take j) ++ [e] := by
          rw [tk, fil_append, fil_cons_1 (c := askC τ P x) hyes, fil_nil]
        refine bT_asksAt_259 ?_
        rcases hA with ⟨a1, a2, a3⟩ | ⟨jb, eb, a1, a2, a3, a4, a5⟩
        · refine br1 (Or.inl a2) (bT_asksAt_281 (bT_asksAt_288 (call := wpT (d + 3)) (fa ?_)))
          rw [w32_s (by omega) (by omega)]
          have := ih (j + 1) (by omega) σ2 ((off τ rs i + j : Nat) : Int) (wth τ wy P rows e) F2 (Or.inr ⟨j, e, rfl, he, by rw [fl]; exact List.mem_append_right _ (List.mem_singleton.mpr rfl), by rw [fl, a1]; rfl, rfl⟩)
          exact this
        · by_cases hc : wy = 3 ∨ (¬ ((wy : Int) ≤ 0) ∧ ¬ (wth τ wy P rows e ≤ wth τ wy P rows eb))
          · refine br1 (Or.inr ?_) (bT_asksAt_281 (bT_asksAt_288 (call := wpT (d + 3)) (fa ?_)))
            · rw [a5]
              rcases hc with q | q
              · exact Or.inl (by omega)
              · exact Or.inr q
            rw [w32_s (by omega) (by omega)]
            have := ih (j + 1) (by omega) σ2 ((off τ rs i + j : Nat) : Int) (wth τ wy P rows e) F2 (Or.inr ⟨j, e, rfl, he, by rw [fl]; exact List.mem_append_right _ (List.mem_singleton.mpr rfl), by rw [fl, chs_app a4, pck_1 hwy hc], rfl⟩)
            exact this
          · refine br0 (fun q => hc ?_) (bT_asksAt_288 (call := wpT (d + 3)) (fa ?_))
            · rw [a5] at q
              rcases q with q | q | q
              · omega
              · exact Or.inl (by omega)
              · exact Or.inr q
            rw [w32_s (by omega) (by omega)]
            have := ih (j + 1) (by omega) σ2 x3 x4 F2 (Or.inr ⟨jb, eb, a1, a2, by rw [fl]; exact List.mem_append_left _ a3, by rw [fl, chs_app a4, pck_0 hwy hc], a5⟩)
            exact this
      refine hI _ _ _ _ ?_
      rw [w32_s (a := (i : Int) + 1) (by omega) (by omega), show ((i : Int) + 1) = ((i + 1 : Nat) : Int) by omega, to1]
      refine ⟨by omega, br0 (by omega) ⟨by omega, fa ⟨by omega, ?_⟩⟩⟩
      rw [t2, i_shr3 cl, cdiv]
      refine fa (bT_asksAt_55 ?_)
      intro J hJ
      -- behind the walk up
      have after : ∀ v6 : Int, (v6 = 0 ∨ v6 = 1) → (v6 = 1 ↔ (stn τ P e = 0 ∧ ∀ e', e' ∈ tsR τ x.1 x.2 → stn τ P e' = 0 → ¬ abv e'.1 e.1)) → pT_asksAt_91 (wpT (d + 3)) (fun v w => zqI Q zno (.inl (some (ai v))) w) I (i : Nat) (wy : Nat) x3 x4 ((off τ rs i + j : Nat) : Int) v6 σ1 := by
        intro v6 h01 hv
        refine bT_asksAt_91 ⟨by omega, ?_⟩
        rw [z3]
        refine fa (bT_asksAt_99 ?_)
        intro K hK
        have goal : pT_asksAt_151 (wpT (d + 3)) (fun v w => zqI Q zno (.inl (some (ai v))) w) I (i : Nat) (wy : Nat) x3 x4 ((off τ rs i + j : Nat) : Int) v6 σ1 := by
          refine bT_asksAt_151 ?_
          by_cases hyes : stn τ P e = 0 ∧ ∀ e', e' ∈ tsR τ x.1 x.2 → stn τ P e' = 0 → ¬ abv e'.1 e.1
          · have ho : opn τ P e.1 := ask_opn c3 c1 c2 hP hRP hSo hl.2 e.1 e hem rfl hyes.2
            refine br0 (by have := hv.mpr hyes; omega) ?_
            by_cases w1 : wy = 1
            · refine br1 (by omega) (bT_asksAt_170 ?_)
              intro L hL
              have cnt : ∀ n2 r : Nat, r + n2 = rs.length → L ((fil (fun x => liv τ P x ∧ lfC τ P x (cod e.1)) (rs.take r)).length : Nat) (r : Nat) σ1 := by
                intro n2
                induction n2 with
                | zero =>
                  intro r hr
                  have hr : r = rs.length := by omega
                  subst hr
                  rw [List.take_length]
                  refine hL _ _ _ (br1 (by rw [hR1.1]; exact Int.le_refl _) (bT_asksAt_221 ?_))
                  have := weigh hyes σ1 F
                  have ew : wth τ wy P rows e = ((fil (fun x => liv τ P x ∧ lfC τ P x (cod e.1)) rs).length : Nat) := by
                    unfold wth wrt
                    rw [if_pos w1, hrows]
                    unfold rws
                    rw [wrt_eq hC ho (fun x hx => hx)]
                  rw [ew] at this
                  exact this
                | succ n2 ih2 =>
                  intro r hr
                  have hrl : r < rs.length := by omega
                  obtain ⟨xr, hxr⟩ : ∃ xr, rs[r]? = some xr := ⟨rs[r], List.getElem?_eq_getElem hrl⟩
                  have ft1 := fil_take (c := fun x => liv τ P x ∧ lfC τ P x (cod e.1)) hxr
                  have fl40 := fil_len (c := fun x => liv τ P x ∧ lfC τ P x (cod e.1)) (rs.take r)
                  rw [List.length_take] at fl40
                  have sfr := hS1 r xr hxr
                  have nxt := ih2 (r + 1) (by omega)
                  rw [ft1, List.length_append] at nxt
                  have zero : ¬ (liv τ P xr ∧ lfC τ P xr (cod e.1)) → pT_asksAt_211 (wpT (d + 3)) (fun v w => zqI Q zno (.inl (some (ai v))) w) I L (i : Nat) (wy : Nat) x3 x4 ((off τ rs i + j : Nat) : Int) (r : Nat) ((fil (fun x => liv τ P x ∧ lfC τ P x (cod e.1)) (rs.take r)).length : Nat) σ1 := fun hno => by
                    rw [fil_cons_0 (c := fun x => liv τ P x ∧ lfC τ P x (cod e.1)) hno, fil_nil] at nxt
                    refine bT_asksAt_211 (bT_asksAt_212 (call := wpT (d + 3)) (fa (fa ?_)))
                    rw [w32_s (a := (r : Int) + 1) (by omega) (by omega), w32_s (by omega) (by omega)]
                    simp at nxt
                    simpa using nxt
                  refine hL _ _ _ (br0 (by rw [hR1.1]; omega) ⟨by omega, ?_⟩)
                  by_cases a0 : tA σ1 70 r = 0
                  · refine br1 a0 (zero (fun y => by have := sfr.2.1.mpr y.1; omega))
                  · have hlr : liv τ P xr := sfr.2.1.mp (by rcases sfr.1 with q | q; exact absurd q a0; exact q)
                    refine br0 a0 ⟨by omega, ?_⟩
                    rw [t2]
                    refine sT_isLeft (d := d + 2) hC hR1 hxr sfr hlr ?_
                    by_cases y : lfC τ P xr (cod e.1)
                    · rw [lfI_1 y]
                      rw [fil_cons_1 (c := fun x => liv τ P x ∧ lfC τ P x (cod e.1)) ⟨hlr, y⟩, fil_nil] at nxt
                      refine br0 (by decide) (bT_asksAt_212 (call := wpT (d + 3)) (fa (fa ?_)))
                      rw [w32_s (a := (r : Int) + 1) (by omega) (by omega), w32_s (by omega) (by omega)]
                      exact nxt
                    · rw [lfI_0 y]
                      exact br1 rfl (zero (fun q => y q.2))
              have := cnt rs.length 0 (by omega)
              exact this
            · refine br0 (by omega) ?_
              by_cases w2 : wy = 2
              · refine br1 (by omega) ⟨by omega, by omega, by rw [t3]; omega, ?_⟩
                rw [t2, t3, hE1.a (by decide) (by decide), u4]
                refine sT_layBranches (d := d) hC hE1 h10 hR1 hS1 ho (hsp x hxm e hem) (fun σ2 F2 B2 ln => fa ?_)
                rw [B2.1, w32_s (by omega) (by omega)]
                have := weigh hyes σ2 (F.trans F2)
                have ew : wth τ wy P rows e = -((brs τ P (rws τ rs P) e.1 (srP τ f e.1)).length : Nat) := by
                  unfold wth
                  rw [if_neg w1, if_pos w2, hrows, u4]
                rw [ew] at this
                exact this
              · refine br0 (by omega) ?_
                have := weigh hyes σ1 F
                have ew : wth τ wy P rows e = 0 := by unfold wth; rw [if_neg w1, if_neg w2]
                rw [ew] at this
                exact this
          · refine br1 ?_ (nope hyes)
            rcases h01 with q | q
            · exact q
            · exact absurd (hv.mp q) hyes
        have up : ∀ n2 u : Nat, u + n2 = j → K v6 ((off τ rs i + u : Nat) : Int) σ1 := by
          intro n2
          induction n2 with
          | zero =>
            intro u hu
            exact hK _ _ _ (br0 (fun q => by omega) goal)
          | succ n2 ih2 =>
            intro u hu
            by_cases v0 : v6 = 0
            · exact hK _ _ _ (br0 (fun q => q.2 v0) goal)
            · have hul : u < (tsR τ x.1 x.2).length := by omega
              obtain ⟨eu, heu⟩ : ∃ eu, (tsR τ x.1 x.2)[u]? = some eu := ⟨(tsR τ x.1 x.2)[u], List.getElem?_eq_getElem hul⟩
              obtain ⟨q1, q2, q3⟩ := z4 u eu heu
              refine hK _ _ _ (br1 ⟨by omega, v0⟩ ⟨by omega, fun _ => ⟨by omega, by omega⟩, fa (fa ?_)⟩)
              rw [w32_s (by omega) (by omega), q2, t2]
              have hne : ¬ ((cod eu.1 : Nat) : Int) = (cod e.1 : Nat) := fun q => by
                have heum : eu ∈ tsR τ x.1 x.2 := List.mem_of_getElem? heu
                have ok := (tsR_ext hRP heum).1.1
                have := tsR_one hRP heum hem (cod_ix ok u5 (by omega))
                have nd := tsR_nodup (τ := τ) x.1 x.2
                rw [this, ← he] at heu
                have := (List.getElem?_inj hul nd).mp heu
                omega
              rw [if_pos (Or.inr hne)]
              have v1 : v6 = 1 := by rcases h01 with q | q; exact absurd q v0; exact q
              have := ih2 (u + 1) (by omega)
              rw [v1] at this
              exact this
        have := up j 0 (by omega)
        exact this
      have chain : ∀ (ρ : Pa), (∀ y, y ∈ ρ → y.2 < 7) → ρ.length ≤ 7 → ∀ v6 : Int, (v6 = 0 ∨ v6 = 1) → ((v6 = 1 ∧ clr τ P x ρ) ↔ (stn τ P e = 0 ∧ ∀ e', e' ∈ tsR τ x.1 x.2 → stn τ P e' = 0 → ¬ abv e'.1 e.1)) → J v6 ((cod ρ : Nat) : Int) σ1 := by
        intro ρ
        induction ρ with
        | nil =>
          intro _ _ v6 h01 hv
          refine hJ _ _ _ (br0 (fun q => absurd q.1 (by decide)) (after v6 h01 ?_))
          rw [← hv]
          exact ⟨fun q => ⟨q, trivial⟩, fun q => q.1⟩
        | cons y ρ ih3 =>
          obtain ⟨k, i'⟩ := y
          intro ok ln v6 h01 hv
          have i7 : i' < 7 := ok (k, i') (List.mem_cons_self ..)
          have okc : okP ((k, i') :: ρ) := ok
          have cl2 : cod ((k, i') :: ρ) < 2147483648 := by
            have := cod_lt okc
            have : 8 ^ ((k, i') :: ρ).length ≤ 8 ^ 7 := Nat.pow_le_pow_right (by decide) ln
            have : (8 : Nat) ^ 7 = 2097152 := by decide
            omega
          have cpos : 0 < cod ((k, i') :: ρ) := by show 0 < 8 * cod ρ + i' + 1; omega
          have cd : cod ((k, i') :: ρ) / 8 = cod ρ := by show (8 * cod ρ + i' + 1) / 8 = _; omega
          by_cases v0 : v6 = 0
          · refine hJ _ _ _ (br0 (fun q => q.2 v0) (after v6 h01 ?_))
            rw [← hv]
            exact ⟨fun q => by omega, fun q => q.1⟩
          · have v1 : v6 = 1 := by rcases h01 with q | q; exact absurd q v0; exact q
            refine hJ _ _ _ (br1 ⟨by omega, v0⟩ (sT_isLeft (d := d + 2) hC hR1 hx (hS1 i x hx) hl (fa (fa ?_))))
            rw [i_shr3 cl2, cd]
            by_cases y : lfC τ P x (cod ((k, i') :: ρ))
            · rw [lfI_1 y, if_neg (by decide)]
              refine ih3 (fun z hz => ok z (List.mem_cons_of_mem _ hz)) (by simp at ln; omega) 0 (Or.inl rfl) ?_
              rw [← hv]
              exact ⟨fun q => absurd q.1 (by decide), fun q => absurd y q.2.1⟩
            · rw [lfI_0 y, if_pos rfl]
              refine ih3 (fun z hz => ok z (List.mem_cons_of_mem _ hz)) (by simp at ln; omega) 1 (Or.inr rfl) ?_
              rw [← hv, v1]
              exact ⟨fun q => ⟨rfl, y, q.2⟩, fun q => ⟨rfl, q.2.2⟩⟩
      have start := chain σe (fun y hy => u5 y (by rw [e1]; exact List.mem_cons_of_mem _ hy)) (by rw [e1] at u6; simp at u6; omega) (if tA σ1 69 ((off τ rs i + j : Nat) : Int) = 0 then 1 else 0) (by split <;> simp) (by
        have ci := clr_iff hRP hem e1 (P := P)
        rw [← hxe] at ci
        rw [← ci]
        constructor
        · rintro ⟨q1, q2⟩
          refine ⟨?_, q2⟩
          have : tA σ1 69 ((off τ rs i + j : Nat) : Int) = 0 := Decidable.byContradiction (fun no => by rw [if_neg no] at q1; exact absurd q1 (by decide))
          have : stn τ P e ≠ 1 := fun y => by have := s2.mpr y; omega
          omega
        · rintro ⟨q1, q2⟩
          refine ⟨?_, q2⟩
          rw [if_pos]
          rcases s1 with y | y
          · exact y
          · have := s2.mp y; omega)
      exact start
  exact key (tsR τ x.1 x.2).length 0 (by omega) σ (-4) 0 (FT.refl _ _) (Or.inl ⟨rfl, rfl, rfl⟩)
end ZAsks2
