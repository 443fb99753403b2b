/-! the component's trees: a function's tree is made -/
section ZFmake
variable {p b e d f F M n wy : Nat} {wS w : CW} {τ : TW} {rs rows : List (Nat × Nat)} {ps : List Pa} {ro : Nat × Nat → Nat} {ru : Nat → Nat}
theorem NDC.ws {w0 : CW} {lo r : Nat} {P : Sp} (hp : ∀ π, plo w0 F ps π = plo wS F ps π) (hk : ∀ k, k < nK τ → kd w0 p k = kd wS p k) (h : NDC p wS w τ f F ps rs ro wy lo P r) : NDC p w0 w τ f F ps rs ro wy lo P r := by
  refine ⟨h.1, fun x hx => ⟨(h.2 x hx).1, fun e he => ?_⟩⟩
  obtain ⟨a1, a2, a3⟩ := (h.2 x hx).2 e he
  refine ⟨by rw [hp]; exact a1, fun q => ?_, a3⟩
  obtain ⟨b1, ⟨b2, b3, b4⟩, b5⟩ := a2 q
  refine ⟨b1, ⟨b2, b3, fun i k hi => ?_⟩, b5⟩
  rw [b4 i k hi, hk k]
  have := (mem_fil.mp (List.mem_of_getElem? hi)).1
  exact List.mem_range.mp this
theorem CTn.ws {w0 : CW} {lo : Nat} (hp : ∀ π, plo w0 F ps π = plo wS F ps π) (hk : ∀ k, k < nK τ → kd w0 p k = kd wS p k) : ∀ m P n r, CTn p wS w τ f F ps rs ro wy lo m P n r → CTn p w0 w τ f F ps rs ro wy lo m P n r := by
  intro m
  induction m with
  | zero => intro P n r _; trivial
  | succ m ih =>
    intro P n r h
    obtain ⟨a, b, c, d, e⟩ := h
    exact ⟨a, b, c, d.ws hp hk, fun i y hi => ih _ _ _ (e i y hi)⟩
theorem TSt.sub {rs' : List (Nat × Nat)} (h : TSt p w τ f F ps rs ro ru) (hs : ∀ x, x ∈ rs' → x ∈ rs) (hC : CX τ f rs') : TSt p w τ f F ps rs' ro ru := by
  obtain ⟨a, b, c, d, e, g⟩ := h
  exact ⟨a, b, hC, fun x hx => d x (hs x hx), fun x hx => e x (hs x hx), fun x y hx hy => g x y (hs x hx) (hs y hy)⟩
theorem TSt.eplo {w' : CW} (h : TSt p w τ f F ps rs ro ru) (fr : Fr [] w w') (π : Pa) : plo w' F ps π = plo w F ps π := by
  obtain ⟨⟨W, K, tF⟩, hP, -⟩ := h
  have oF := fr.2.2.2.2 F (W.le (by rw [tF]; decide)) (by simp)
  have oA := fr.2.2.2.2 (fR w 50 F) (W.le (by rw [hP.2.1.1]; decide)) (by simp)
  unfold plo
  by_cases z : π = []
  · rw [if_pos z, if_pos z]
  · rw [if_neg z, if_neg z, ob.efR oF, ob.eaR oA]
theorem sC_fmake {A : Nat} {bare lim : Int} {rs' : List (Nat × Nat)} (hrs : rs' = fil (fun x => bare = 0 ∨ tA τ 53 (x.1 : Nat) = 0) rs) (hS : TSt p w τ f F ps rs ro ru) (hF : p + 8 < F ∧ fR w 55 F = p ∧ fR w 49 F = A) (hp8 : p + 8 ≤ cz w) (hA : ARW w A rs ro ∧ ln w A = rs.length) (hC : CX τ f rs') (hwy : wy ≤ 3) (hsp : SPRs τ f rs') (hm : lim ≤ mu w ∧ lim ≤ 5 * mz w) (hlim : zm w + 34000 ≤ lim) {Q : ZRes → CW → Prop}
    (hQ : ∀ r w', tsz τ rs' wy 121 [] ≤ 120 → Fr [] w w' → WF p w' → zm w' ≤ zm w + 34000 → CTn p w w' τ f F ps rs' ro wy (cz w) 121 [] 0 r → Q (.inl (some (ar r))) w') (hX : ∀ x w', 120 < tsz τ rs' wy 121 [] → Fr [] w w' → WF p w' → tg w' x = 18 → zm w' ≤ zm w + 34000 → Q (.inr x) w') : wpC p (d + 249) 89 [ar F, ai (wy : Nat), ai bare] w Q := by
  obtain ⟨⟨W, K, tF⟩, hPL, hCX, -, hU, -⟩ := id hS
  have lF := W.le (r := F) (by rw [tF]; decide)
  have lA := W.le (r := A) (by rw [hA.1.1]; decide)
  have l40 : rs.length ≤ 40 := hCX.2.1
  refine wC_X4_make (Nat.zero_le _) (bC_X4_make_0 ⟨by rw [tF]; decide, ?_⟩)
  rw [hF.2.2, hA.2, Int.toNat_natCast]
  refine ⟨by rw [hA.1.1]; decide, ⟨⟨by omega, by omega⟩, room_n (k := rs.length) hm (by omega)⟩, fa ⟨?_, fa ?_⟩⟩
  · rw [tg_nA, if_neg (by omega), tF]; decide
  have e49 : fR (nA w 116 rs.length) 49 F = A := hF.2.2
  rw [e49]
  have lnA : ln (nA w 116 rs.length) A = rs.length := by rw [ln_nA, if_neg (by omega)]; exact hA.2
  rw [lnA, tg_nA, if_neg (by omega)]
  refine ⟨by rw [hA.1.1]; decide, fa ?_⟩
  obtain ⟨RA, hRA⟩ : ∃ RA, RA = cz w + 1 := ⟨_, rfl⟩
  obtain ⟨w1, hw1⟩ : ∃ w1, w1 = nA w 116 rs.length := ⟨_, rfl⟩
  rw [← hw1, ← hRA]
  have f1 : Fr [] w w1 := by rw [hw1]; exact (Fr.refl _ _).snA
  have W1 : WF p w1 := by rw [hw1]; exact W.snA _ _
  have t1 : tg w1 RA = 116 ∧ ln w1 RA = rs.length ∧ cz w1 = RA := by
    rw [hw1, hRA]
    exact ⟨by rw [tg_nA, if_pos rfl], by rw [ln_nA, if_pos rfl], rfl⟩
  have z1 : zm w1 = zm w + rs.length + 5 := by
    rw [hw1]
    show ((cu w + rs.length : Nat) : Int) + 5 * ((cz w + 1 : Nat) : Int) = ((cu w : Nat) : Int) + 5 * ((cz w : Nat) : Int) + _ + 5
    omega
  obtain ⟨c, hc⟩ : ∃ c : Nat × Nat → Prop, c = fun x => bare = 0 ∨ tA τ 53 (x.1 : Nat) = 0 := ⟨_, rfl⟩
  rw [← hc] at hrs
  refine bC_X4_make_26 ?_
  intro I hI
  have key : ∀ t k : Nat, t + k = rs.length → ∀ u, Fr [RA] w1 u → WF p u → cz u = cz w1 ∧ zm u = zm w1 → (∀ (i : Nat) y, (fil c (rs.take k))[i]? = some y → aR u RA (i : Nat) = ro y) → I ((fil c (rs.take k)).length : Nat) (k : Int) u := by
    intro t
    induction t with
    | zero =>
      intro k hk u fu Wu su hu
      have ek : rs.take k = rs := List.take_of_length_le (by omega)
      rw [ek, ← hrs] at hu ⊢
      have F0 : Fr [] w u := f1.trans' fu (fun q hq => by rw [List.mem_singleton.mp hq]; right; omega)
      have Su := ((hS.fr F0 Wu).1).sub (rs' := rs') (fun x hx => by rw [hrs] at hx; exact (mem_fil.mp hx).1) hC
      have hmu : lim ≤ mu u ∧ lim ≤ 5 * mz u := by rw [F0.emu, F0.emz]; exact hm
      have tF' : tg u F = 4 := Su.1.2.2
      have l900 : ps.length ≤ 900 := hPL.2.2.2.1
      refine hI _ _ _ (br1 (by omega) (bC_X4_make_70 ⟨room_n (k := 7) hmu (by omega), fa ⟨?_, ?_⟩⟩))
      · rw [tg_nO, if_neg (by omega), tF']; decide
      have e55 : fR (nO u 16 7) 55 F = p := by
        rw [fR_nO, if_neg (by omega), ob.efR (F0.2.2.2.2 F lF (by simp))]
        exact hF.2.1
      rw [e55]
      refine sC_minit (d := d + 246) Su hF.1 hwy hmu (by omega) (by omega) (fun v mv kv fv zv => ?_)
      refine ⟨mv.2.2.2.2.1.1.2.1, ?_⟩
      have lrs : rs'.length ≤ 40 := hC.2.1
      have rsl : rs'.length ≤ rs.length := by rw [hrs]; exact fil_len _
      have aRA : ARW u RA rs' ro := ⟨by rw [(fu.2.2.2.1 RA (by omega)).1]; exact t1.1, by rw [(fu.2.2.2.1 RA (by omega)).2, t1.2.1]; exact rsl, hu⟩
      have aRv : ARW v RA rs' ro := aRA.fr (p := p) Wu mv.2.2.1 (fun q hq => by cases hq)
      have MK := sC_mkTree (d := d) (lim := lim) (wS := u) (rs := rs') (M := cz u + 1) (p := p) (τ := τ) (f := f) (F := F) (ps := ps) (ro := ro) (ru := ru) hwy hsp 121
      refine MK [] [] 0 RA rs' v _ mv kv (Nat.zero_le _) aRv ⟨lrs, fun x hx => ⟨hx, DEC.nil _ _⟩⟩ (fun x _ q => by cases q) rfl trivial fv.1 fv.2 (by omega) (by omega) (by rw [mv.2.2.1.emu, mv.2.2.1.emz]; exact hmu) (by omega) (fun r w' hle he => ?_) (fun x w' hgt hx => ?_)
      · obtain ⟨g1, g2, g3, g4, g5, g6, g7⟩ := he
        have G : Fr [] w w' := F0.trans g1.2.2.1
        refine hQ r w' (by omega) G g1.2.2.2.1 (by omega) ?_
        refine CTn.ws (wS := u) (fun π => (hS.eplo F0 π).symm) (fun k _ => ((hS.fr F0 Wu).2.2 k).symm) _ _ _ _ (CTn.lo (by have := mv.2.2.1.1; have := F0.1; omega) _ _ _ _ g6)
      · obtain ⟨x1, x2, x3, x4⟩ := hx
        have G : Fr [] w w' := (F0.trans mv.2.2.1).trans' x1 (fun q hq => by have := mem_MT.mp hq; right; have := F0.1; omega)
        exact hX x w' (by omega) G x2 x3 (by omega)
    | succ t ih =>
      intro k hk u fu Wu su hu
      obtain ⟨y, hy⟩ : ∃ y, rs[k]? = some y := ⟨_, List.getElem?_eq_getElem (by omega)⟩
      have hyl := List.mem_of_getElem? hy
      have F0 : Fr [] w u := f1.trans' fu (fun q hq => by rw [List.mem_singleton.mp hq]; right; omega)
      have Su := (hS.fr F0 Wu).1
      have aA : ARW u A rs ro := hA.1.fr (p := p) W F0 (fun q hq => by cases hq)
      have ay := aA.2.2 k y hy
      obtain ⟨yt, -, y80, -⟩ := Su.row hyl
      obtain ⟨u5, u59⟩ := Su.2.2.2.2.1 y hyl
      obtain ⟨g1, g0'⟩ := fil_snoc (c := c) hy
      have fll : (fil c (rs.take k)).length ≤ k := Nat.le_trans (fil_len _) (by rw [List.length_take]; omega)
      have tO : tg u RA = 116 ∧ ln u RA = rs.length := by
        rw [(fu.2.2.2.1 RA (by omega)).1, (fu.2.2.2.1 RA (by omega)).2]
        exact ⟨t1.1, t1.2.1⟩
      refine hI _ _ _ (br0 (by omega) ⟨by rw [aA.1]; exact ⟨⟨by decide, by decide⟩, by omega, by have := aA.2.1; omega⟩, fa ?_⟩)
      rw [ay, y80]
      refine ⟨fun _ => ⟨by rw [yt]; decide, by rw [u5]; decide⟩, fun z => bC_X4_make_55 (call := wpC p (d + 248)) ⟨by rw [tO.1, tO.2]; exact ⟨⟨by decide, by decide⟩, by omega, by omega⟩, Or.inr (by rw [yt, tO.1]; rfl), fa (fa (bC_X4_make_64 (call := wpC p (d + 248)) (fa ?_)))⟩, fun z => bC_X4_make_64 (call := wpC p (d + 248)) (fa ?_)⟩
      · rw [w32_s (by omega) (by omega), w32_s (by omega) (by omega)]
        have cy : c y := by
          rw [hc]
          rcases z with q | q
          · exact Or.inl q
          · exact Or.inr (u59.mp q)
        obtain ⟨u', hu'⟩ : ∃ u', u' = qR u RA ((fil c (rs.take k)).length : Nat) (ro y) := ⟨_, rfl⟩
        rw [← hu']
        have fq : Fr [RA] u u' := by rw [hu']; exact (Fr.refl _ _).sqR (Or.inl (by simp))
        have := ih (k + 1) (by omega) u' (fu.trans fq) (by rw [hu']; exact Wu.sqR _ _ _) (by rw [hu']; exact su) (fun i y' hi => ?_)
        · rw [g1 cy] at this
          exact this
        · rw [fil_take hy, fil_cons_1 cy, fil_nil] at hi
          rw [hu', aR_qR]
          rcases get_app hi with ⟨i1, i2⟩ | ⟨i1, i2⟩
          · rw [if_neg (by omega)]
            exact hu i y' i2
          · rw [if_pos ⟨rfl, by omega⟩, i2]
      · rw [w32_s (by omega) (by omega)]
        have ny : ¬ c y := by
          rw [hc]
          intro q
          exact z (q.imp id (fun g => u59.mpr g))
        have ef := g0' ny
        have := ih (k + 1) (by omega) u fu Wu su (by rw [ef]; exact hu)
        rw [ef] at this
        exact this
  exact key rs.length 0 (by omega) w1 (Fr.refl _ _) W1 ⟨rfl, rfl⟩ (fun i y hi => by simp [fil] at hi)
end ZFmake
