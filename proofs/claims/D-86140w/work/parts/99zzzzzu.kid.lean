/-! the component's trees: a node's tree of objects; a child is made -/
section ZKid
variable {p b e d f F M n wy : Nat} {wS w : CW} {τ : TW} {rs rows : List (Nat × Nat)} {ps : List Pa} {P : Sp} {O : List (Pa × Int)} {ro : Nat × Nat → Nat} {ru : Nat → Nat}
/-- nodes of the first i children -/
noncomputable def prs (τ : TW) (rs : List (Nat × Nat)) (wy m : Nat) (cs : List (Br × Sp)) (i : Nat) : Nat := ((cs.take i).map (fun y => tsz τ rs wy m y.2)).sum
theorem prs_0 (m : Nat) (cs : List (Br × Sp)) : prs τ rs wy m cs 0 = 0 := by unfold prs; simp
theorem prs_s {m : Nat} {cs : List (Br × Sp)} {i : Nat} {y : Br × Sp} (h : cs[i]? = some y) : prs τ rs wy m cs (i + 1) = prs τ rs wy m cs i + tsz τ rs wy m y.2 := by
  unfold prs
  rw [List.take_succ, h, List.map_append, List.sum_append]
  simp
theorem prs_le {m : Nat} {cs : List (Br × Sp)} : ∀ i, prs τ rs wy m cs i ≤ (cs.map (fun y => tsz τ rs wy m y.2)).sum := by
  intro i
  unfold prs
  have := List.take_append_drop i cs
  have e : (cs.map (fun y => tsz τ rs wy m y.2)).sum = ((cs.take i).map (fun y => tsz τ rs wy m y.2)).sum + ((cs.drop i).map (fun y => tsz τ rs wy m y.2)).sum := by
    rw [← List.sum_append, ← List.map_append, this]
  omega
theorem prs_all (m : Nat) (cs : List (Br × Sp)) : prs τ rs wy m cs cs.length = (cs.map (fun y => tsz τ rs wy m y.2)).sum := by unfold prs; rw [List.take_of_length_le (Nat.le_refl _)]
/-- what a node's object is -/
def NDC (p : Nat) (wS w : CW) (τ : TW) (f F : Nat) (ps : List Pa) (rs : List (Nat × Nat)) (ro : Nat × Nat → Nat) (wy lo : Nat) (P : Sp) (r : Nat) : Prop := (ndE τ rs P = none → tg w r = 19) ∧ ∀ x, ndE τ rs P = some x → (chs τ wy P (rws τ rs P) (ask τ P x) = none → tg w r = (if tA τ 53 (x.1 : Nat) = 0 then 20 else 21) ∧ fR w 108 r = ro x) ∧ ∀ e, chs τ wy P (rws τ rs P) (ask τ P x) = some e → fR w 109 r = plo wS F ps e.1 ∧ (3 ≤ srP τ f e.1 → tg w r = 22 ∧ LVA p wS w (fR w 110 r) (lvs τ (srP τ f e.1 - 3)) ∧ lo < fR w 110 r) ∧ (srP τ f e.1 = 1 → tg w r = 23) ∧ (srP τ f e.1 = 2 → tg w r = 24 ∧ NUA w (fR w 111 r) 103 (txs τ P (rws τ rs P) e.1) ∧ lo < fR w 111 r) ∧ (srP τ f e.1 = 0 → tg w r = 25 ∧ NUA w (fR w 112 r) 102 (bos τ P (rws τ rs P) e.1 ++ [2147483647]) ∧ lo < fR w 112 r)
/-- the tree of objects behind some steps -/
def CTn (p : Nat) (wS w : CW) (τ : TW) (f F : Nat) (ps : List Pa) (rs : List (Nat × Nat)) (ro : Nat × Nat → Nat) (wy lo : Nat) : Nat → Sp → Nat → Nat → Prop
  | 0, _, _, _ => True
  | m + 1, P, n, r => (lo < r ∧ (19 ≤ tg w r ∧ tg w r ≤ 25) ∧ fI w 106 r = n) ∧ (tg w (fR w 107 r) = 113 ∧ ln w (fR w 107 r) = (chd τ rs wy P).length ∧ lo < fR w 107 r) ∧ (m = 0 → chd τ rs wy P = []) ∧ NDC p wS w τ f F ps rs ro wy lo P r ∧ ∀ (i : Nat) y, (chd τ rs wy P)[i]? = some y → CTn p wS w τ f F ps rs ro wy lo m y.2 (n + 1 + prs τ rs wy m (chd τ rs wy P) i) (aR w (fR w 107 r) (i : Nat))
theorem LVA.ob {w' : CW} {r : Nat} {L : List Nat} (h : LVA p wS w r L) (o : ob w' r = ob w r) : LVA p wS w' r L := ⟨by rw [ob.etg o]; exact h.1, by rw [ob.eln o]; exact h.2.1, fun i k hk => by rw [ob.eaR o]; exact h.2.2 i k hk⟩
theorem NUA.ob {w' : CW} {r t : Nat} {L : List Int} (h : NUA w r t L) (o : ob w' r = ob w r) : NUA w' r t L := ⟨by rw [ob.etg o]; exact h.1, by rw [ob.eln o]; exact h.2.1, fun i k hk => by rw [ob.eaI o]; exact h.2.2 i k hk⟩
theorem NDC.fr {w' : CW} {lo r : Nat} (h : NDC p wS w τ f F ps rs ro wy lo P r) (o : ob w' r = ob w r) (eo : ∀ q, lo < q → tg w q ≠ 0 → tg w q ≠ 113 → ob w' q = ob w q) : NDC p wS w' τ f F ps rs ro wy lo P r := by
  refine ⟨fun q => by rw [ob.etg o]; exact h.1 q, fun x hx => ⟨fun q => ?_, fun e he => ?_⟩⟩
  · rw [ob.etg o, ob.efR o]
    exact (h.2 x hx).1 q
  · obtain ⟨a1, a2, a3, a4, a5⟩ := (h.2 x hx).2 e he
    rw [ob.etg o, ob.efR o, ob.efR o, ob.efR o, ob.efR o]
    refine ⟨a1, fun q => ?_, a3, fun q => ?_, fun q => ?_⟩
    · obtain ⟨b1, b2, b3⟩ := a2 q
      exact ⟨b1, b2.ob (eo _ b3 (by rw [b2.1]; decide) (by rw [b2.1]; decide)), b3⟩
    · obtain ⟨b1, b2, b3⟩ := a4 q
      exact ⟨b1, b2.ob (eo _ b3 (by rw [b2.1]; decide) (by rw [b2.1]; decide)), b3⟩
    · obtain ⟨b1, b2, b3⟩ := a5 q
      exact ⟨b1, b2.ob (eo _ b3 (by rw [b2.1]; decide) (by rw [b2.1]; decide)), b3⟩
theorem CTn.eo {w' : CW} {lo : Nat} (eo : ∀ q, lo < q → tg w q ≠ 0 → ob w' q = ob w q) : ∀ m P n r, CTn p wS w τ f F ps rs ro wy lo m P n r → CTn p wS w' τ f F ps rs ro wy lo m P n r := by
  intro m
  induction m with
  | zero => intro P n r _; trivial
  | succ m ih =>
    intro P n r h
    obtain ⟨⟨a1, a2, a3⟩, ⟨b1, b2, b3⟩, c, d, e⟩ := h
    have o := eo r a1 (by omega)
    have o7 := eo _ b3 (by rw [b1]; decide)
    refine ⟨⟨a1, by rw [ob.etg o]; exact a2, by rw [ob.efI o]; exact a3⟩, ⟨by rw [ob.efR o, ob.etg o7]; exact b1, by rw [ob.efR o, ob.eln o7]; exact b2, by rw [ob.efR o]; exact b3⟩, c, d.fr o (fun q a b _ => eo q a b), fun i y hi => ?_⟩
    rw [ob.efR o, ob.eaR o7]
    exact ih _ _ _ (e i y hi)
theorem CTn.fr {T : List Nat} {w' : CW} {lo : Nat} (W : WF p w) (fr : Fr T w w') (hT : ∀ r, r ∈ T → r ≤ lo ∨ cz w < r) {m n r : Nat} {P : Sp} (h : CTn p wS w τ f F ps rs ro wy lo m P n r) : CTn p wS w' τ f F ps rs ro wy lo m P n r :=
  CTn.eo (fun q hq ht => fr.eob W ht (fun y => by have := hT q y; have := W.le ht; omega)) m P n r h
theorem CTn.lo {lo lo' : Nat} (hl : lo' ≤ lo) : ∀ m P n r, CTn p wS w τ f F ps rs ro wy lo m P n r → CTn p wS w τ f F ps rs ro wy lo' m P n r := by
  intro m
  induction m with
  | zero => intro P n r _; trivial
  | succ m ih =>
    intro P n r h
    obtain ⟨⟨a1, a2, a3⟩, ⟨b1, b2, b3⟩, c, d, e⟩ := h
    refine ⟨⟨by omega, a2, a3⟩, ⟨b1, b2, by omega⟩, c, ⟨d.1, fun x hx => ⟨(d.2 x hx).1, fun e he => ?_⟩⟩, fun i y hi => ih _ _ _ (e i y hi)⟩
    obtain ⟨q1, q2, q3, q4, q5⟩ := (d.2 x hx).2 e he
    exact ⟨q1, fun q => ⟨(q2 q).1, (q2 q).2.1, by have := (q2 q).2.2; omega⟩, q3, fun q => ⟨(q4 q).1, (q4 q).2.1, by have := (q4 q).2.2; omega⟩, fun q => ⟨(q5 q).1, (q5 q).2.1, by have := (q5 q).2.2; omega⟩⟩
/-- a maker's own -/
def MT (M : Nat) : List Nat := (List.range 12).map (fun i => M + i)
theorem mem_MT {r : Nat} : r ∈ MT M ↔ M ≤ r ∧ r ≤ M + 11 := by
  unfold MT
  rw [List.mem_map]
  constructor
  · rintro ⟨i, hi, rfl⟩
    have := List.mem_range.mp hi
    omega
  · intro h
    exact ⟨r - M, List.mem_range.mpr (by omega), by omega⟩
theorem MSh.ne {t : Nat} (h : MSh p w M n) (ht : t = 116 ∨ t = 113 ∨ (19 ≤ t ∧ t ≤ 25)) : ∀ r, r ∈ MT M → tg w r ≠ t := by
  intro r hr
  obtain ⟨h1, h2⟩ := mem_MT.mp hr
  obtain ⟨⟨-, a1, -⟩, ⟨a2, -, a3, -⟩, ⟨a4, -⟩, ⟨a5, -, a6, -⟩, ⟨a7, -, a8, -, a9, -⟩, ⟨b1, -, b2, -, b3, -⟩⟩ := h
  rcases (by omega : r = M ∨ r = M + 1 ∨ r = M + 2 ∨ r = M + 3 ∨ r = M + 4 ∨ r = M + 5 ∨ r = M + 6 ∨ r = M + 7 ∨ r = M + 8 ∨ r = M + 9 ∨ r = M + 10 ∨ r = M + 11) with q | q | q | q | q | q | q | q | q | q | q | q <;> rw [q] <;> omega
/-- a node is made: all behind it stands -/
def MKE (p : Nat) (wS w w' : CW) (τ : TW) (f F : Nat) (ps : List Pa) (rs : List (Nat × Nat)) (ro : Nat × Nat → Nat) (ru : Nat → Nat) (M wy m n : Nat) (P : Sp) (O : List (Pa × Int)) (r : Nat) : Prop := MW p wS w' τ f F ps rs ro ru M ∧ KN p w' τ f F M ps P O ∧ Fr (MT M) w w' ∧ (fI w' 92 M = wy ∧ fI w' 93 M = (n + tsz τ rs wy m P : Nat)) ∧ zm w' ≤ zm w + 232 * tsz τ rs wy m P ∧ CTn p wS w' τ f F ps rs ro wy (cz w) m P n r ∧ 1 ≤ m
/-- a node more than there may be -/
def MKX (p : Nat) (T : List Nat) (w w' : CW) (z : Int) (x : Nat) : Prop := Fr T w w' ∧ WF p w' ∧ tg w' x = 18 ∧ zm w' ≤ zm w + z
/-- make's law (by fuel) -/
def MKP (p : Nat) (wS : CW) (τ : TW) (f F : Nat) (ps : List Pa) (rs : List (Nat × Nat)) (ro : Nat × Nat → Nat) (ru : Nat → Nat) (M wy : Nat) (lim : Int) (D m : Nat) : Prop :=
  ∀ (P : Sp) (O : List (Pa × Int)) (n A : Nat) (l : List (Nat × Nat)) (w : CW) (Q : ZRes → CW → Prop), MW p wS w τ f F ps rs ro ru M → KN p w τ f F M ps P O → O.length ≤ n → ARW w A l ro → RWS τ rs l P O → (∀ x, x ∈ l → x.1 ∉ gds P) → fil (liv τ P) l = rws τ rs P → PSd τ f P → fI w 92 M = wy → fI w 93 M = n → n ≤ 120 → 121 ≤ n + m → (lim ≤ mu w ∧ lim ≤ 5 * mz w) → zm w + 232 * (121 - (n : Int)) ≤ lim →
    (∀ r w', n + tsz τ rs wy m P ≤ 120 → MKE p wS w w' τ f F ps rs ro ru M wy m n P O r → Q (.inl (some (ar r))) w') → (∀ x w', 120 < n + tsz τ rs wy m P → MKX p (MT M) w w' (232 * (121 - (n : Int))) x → Q (.inr x) w') → wpC p D 133 [ar M, ar A, ai (l.length : Nat)] w Q
/-- a node's children, so far -/
def LSB (p : Nat) (wS w0 u : CW) (τ : TW) (f F : Nat) (ps : List Pa) (rs rows : List (Nat × Nat)) (ro : Nat × Nat → Nat) (ru : Nat → Nat) (M wy m n A NX : Nat) (cs : List (Br × Sp)) (j : Nat) : Prop :=
  MW p wS u τ f F ps rs ro ru M ∧ ARW u A rows ro ∧ (fI u 92 M = wy ∧ fI u 93 M = (n + 1 + prs τ rs wy m cs j : Nat)) ∧ n + 1 + prs τ rs wy m cs j ≤ 120 ∧ Fr (NX :: MT M) w0 u ∧ zm u ≤ zm w0 + 232 * prs τ rs wy m cs j ∧ ∀ (i : Nat) y, i < j → cs[i]? = some y → CTn p wS u τ f F ps rs ro wy (cz w0) m y.2 (n + 1 + prs τ rs wy m cs i) (aR u NX (i : Nat))
theorem zst_node : ∀ t : Nat, (19 ≤ t ∧ t ≤ 25) → zst 113 t = true := by
  intro t ht
  rcases (by omega : t = 19 ∨ t = 20 ∨ t = 21 ∨ t = 22 ∨ t = 23 ∨ t = 24 ∨ t = 25) with q | q | q | q | q | q | q <;> rw [q] <;> rfl
theorem mk_kid {w0 u u1 : CW} {m A NX D j : Nat} {lim : Int} {cs : List (Br × Sp)} {y : Br × Sp} {O' : List (Pa × Int)} (hI : MKP p wS τ f F ps rs ro ru M wy lim D m) (hB : LSB p wS w0 u τ f F ps rs rows ro ru M wy m n A NX cs j) (hy : cs[j]? = some y) (f1 : Fr (MT M) u u1) (m1 : MW p wS u1 τ f F ps rs ro ru M) (s1 : cz u1 = cz u ∧ zm u1 = zm u ∧ fI u1 92 M = fI u 92 M ∧ fI u1 93 M = fI u 93 M) (k1 : KN p u1 τ f F M ps y.2 O') (hO : O'.length ≤ n + 1 + prs τ rs wy m cs j) (hR : RWS τ rs rows y.2 O') (hg : ∀ x, x ∈ rows → x.1 ∉ gds y.2) (hf : fil (liv τ y.2) rows = rws τ rs y.2) (hP : PSd τ f y.2) (hnx : NX ≤ cz w0 ∧ tg w0 NX = 113 ∧ j < ln w0 NX) (hMN : M + 11 < NX) (hm2 : 121 ≤ n + 1 + m) (hm : lim ≤ mu w0 ∧ lim ≤ 5 * mz w0) (hlim : zm w0 + 232 * (120 - (n : Int)) ≤ lim) {K : CW → Prop} {X : Nat → CW → Prop}
    (hgo : ∀ u2, LSB p wS w0 u2 τ f F ps rs rows ro ru M wy m n A NX cs (j + 1) → KN p u2 τ f F M ps y.2 O' → K u2) (hX : ∀ x u', 120 < n + 1 + prs τ rs wy m cs (j + 1) → MKX p (NX :: MT M) w0 u' (232 * (120 - (n : Int))) x → X x u') : wpC p D 133 [ar M, ar A, ai (rows.length : Nat)] u1 (zqR (fun v u' => ((111 ≤ tg u' NX ∧ tg u' NX ≤ 119) ∧ 0 ≤ ((j : Nat) : Int) ∧ ((j : Nat) : Int) < (ln u' NX : Nat)) ∧ (v = 0 ∨ zst (tg u' NX) (tg u' v) = true) ∧ ∀ u'' : CW, u'' = qR u' NX ((j : Nat) : Int) v → K u'') (fun x u' => X x u')) := by
  obtain ⟨b1, b2, ⟨b3, b4⟩, b5, b6, b7, b8⟩ := hB
  have es := prs_s (τ := τ) (rs := rs) (wy := wy) (m := m) hy
  have W0 := b1.2.2.2.1
  have a1 : ARW u1 A rows ro := b2.fr (p := p) W0 f1 (b1.2.2.2.2.1.ne (Or.inl rfl))
  have tN : tg u NX = 113 ∧ ln u NX = ln w0 NX := by rw [(b6.2.2.2.1 NX hnx.1).1, (b6.2.2.2.1 NX hnx.1).2]; exact ⟨hnx.2.1, rfl⟩
  have nM : NX ∉ MT M := fun q => b1.2.2.2.2.1.ne (Or.inr (Or.inl rfl)) NX q tN.1
  have bz := b6.1
  have hmu : lim ≤ mu u1 ∧ lim ≤ 5 * mz u1 := by rw [f1.emu, f1.emz, b6.emu, b6.emz]; exact hm
  refine hI y.2 O' (n + 1 + prs τ rs wy m cs j) A rows u1 _ m1 k1 hO a1 hR hg hf hP (by rw [s1.2.2.1]; exact b3) (by rw [s1.2.2.2]; exact b4) b5 (by omega) hmu (by have := s1.2.1; omega) (fun v u' hle he => ?_) (fun x u' hgt hx => ?_)
  · obtain ⟨e1, e2, e3, ⟨e4, e5⟩, e6, e7, e8⟩ := he
    obtain ⟨m', rfl⟩ : ∃ m', m = m' + 1 := ⟨m - 1, by omega⟩
    have ct := e7
    obtain ⟨⟨c1, c2, c3⟩, -⟩ := e7
    have F2 : Fr (MT M) u u' := f1.trans e3
    have tN' : tg u' NX = 113 ∧ ln u' NX = ln w0 NX := by rw [(F2.2.2.2.1 NX (by omega)).1, (F2.2.2.2.1 NX (by omega)).2]; exact tN
    refine ⟨by rw [tN'.1, tN'.2]; exact ⟨⟨by decide, by decide⟩, by omega, by omega⟩, Or.inr (by rw [tN'.1]; exact zst_node _ c2), fa ?_⟩
    obtain ⟨u2, hu2⟩ : ∃ u2, u2 = qR u' NX ((j : Nat) : Int) v := ⟨_, rfl⟩
    rw [← hu2]
    have fq : Fr [NX] u' u2 := by rw [hu2]; exact (Fr.refl _ _).sqR (Or.inl (by simp))
    have Wq : WF p u2 := by rw [hu2]; exact e1.2.2.2.1.sqR _ _ _
    have mq : MW p wS u2 τ f F ps rs ro ru M := e1.sa fq Wq (fun q hq => by rw [List.mem_singleton.mp hq]; omega)
    have kq : KN p u2 τ f F M ps y.2 O' := e2.sa e1 fq mq (fun q hq => by rw [List.mem_singleton.mp hq]; omega)
    have F3 : Fr (NX :: MT M) u u2 := (F2.mono (fun q hq => Or.inl (List.mem_cons_of_mem _ hq))).trans (fq.mono (fun q hq => Or.inl (by rw [List.mem_singleton.mp hq]; exact List.mem_cons_self ..)))
    have oM := fq.2.2.2.2 M (by have := e1.2.2.2.2.2; omega) (fun q => by have := List.mem_singleton.mp q; omega)
    have hz2 : zm u2 = zm u' := by rw [hu2]; rfl
    refine hgo u2 ⟨mq, b2.fr (p := p) W0 F3 (fun q hq => ?_), ⟨by rw [ob.efI oM]; exact e4, by rw [ob.efI oM, e5, es, Nat.add_assoc]⟩, by rw [es]; omega, b6.trans F3, by have := s1.2.1; rw [es]; omega, fun i y' hi hy' => ?_⟩ kq
    · rcases List.mem_cons.mp hq with q2 | q2
      · rw [q2, tN.1]; decide
      · exact b1.2.2.2.2.1.ne (Or.inl rfl) q q2
    · have eR : aR u2 NX (i : Nat) = if i = j then v else aR u NX (i : Nat) := by
        rw [hu2, aR_qR]
        by_cases q : i = j
        · rw [if_pos ⟨rfl, by omega⟩, if_pos q]
        · rw [if_neg (by omega), if_neg q]
          have := F2.2.2.2.2 NX (by omega) nM
          rw [ob.eaR this]
      rw [eR]
      by_cases q : i = j
      · rw [if_pos q, q]
        rw [q, hy] at hy'
        rw [← Option.some.inj hy']
        refine CTn.fr (p := p) e1.2.2.2.1 fq (fun g hg => ?_) (CTn.lo (by rw [s1.1]; exact bz) _ _ _ _ ct)
        rw [List.mem_singleton.mp hg]
        exact Or.inl hnx.1
      · rw [if_neg q]
        refine CTn.fr (p := p) W0 F3 (fun g hg => ?_) (b8 i y' (by omega) hy')
        rcases List.mem_cons.mp hg with g2 | g2
        · rw [g2]; exact Or.inl hnx.1
        · have := mem_MT.mp g2
          left
          omega
  · obtain ⟨x1, x2, x3, x4⟩ := hx
    refine hX x u' (by rw [es]; omega) ⟨b6.trans ((f1.trans x1).mono (fun q hq => Or.inl (List.mem_cons_of_mem _ hq))), x2, x3, by have := s1.2.1; omega⟩
end ZKid
