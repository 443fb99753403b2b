/-! a function that was read is laid -/
section ZLayd
variable {p b e d f F n lo wy : Nat} {w w' : CW} {τ σ : TW} {rs : List (Nat × Nat)} {ps : List Pa} {ro : Nat × Nat → Nat} {ru : Nat → Nat}
/-- a function is laid -/
def LAID (p : Nat) (w : CW) (τ : TW) (f F n A lo : Nat) (ps : List Pa) (ro : Nat × Nat → Nat) (ru : Nat → Nat) : Prop :=
  FH p w τ f F ∧ (∃ m, FC w τ f F m ∧ 1 ≤ m) ∧ (∃ l h, FRs p w τ f F n l h) ∧ ((∀ i, i < n → tA τ 49 (16 * f + i : Nat) ≤ 40) ∧ (rowsK τ f 0 n).length ≤ 40 ∧ f < 12) ∧
  (fR w 49 F = A ∧ lo < A ∧ ARW w A (rowsK τ f 0 n) ro ∧ ln w A = (rowsK τ f 0 n).length) ∧
  TSt p w τ f F ps (rowsK τ f 0 n) ro ru ∧ ((∀ i, i < n → ru (16 * f + i) = aR w (F + 2) i) ∧ ∀ x, x ∈ rowsK τ f 0 n → RWl lo w (ro x)) ∧ (p + 8 ≤ lo ∧ F + 3 ≤ lo ∧ lo ≤ cz w) ∧ PSo τ ps
/-- what may be written beside a function that is laid -/
def TkL (p : Nat) (w : CW) (F lo : Nat) (T : List Nat) : Prop := ∀ x, x ∈ T → x ≤ p + 8 ∨ cz w < x ∨ tg w x = 3 ∨ x = F ∨ (tg w x = 4 ∨ (x ≤ lo ∧ tg w x = 115 ∧ x ≠ F + 3))
theorem TkL.no {T : List Nat} (h : TkL p w F lo T) (W : WF p w) {r : Nat} (h0 : p + 8 < r) (ht : tg w r ≠ 0 ∧ tg w r ≠ 3 ∧ tg w r ≠ 4) (hr : tg w r = 115 → r = F + 3 ∨ lo < r) (hF : tg w F = 4) : r ∉ T := by
  intro hm
  have := W.le ht.1
  rcases h r hm with y | y | y | y | y2 | ⟨y1, y2, y3⟩
  · omega
  · omega
  · exact ht.2.1 y
  · rw [y, hF] at ht; exact ht.2.2 rfl
  · exact ht.2.2 y2
  · rcases hr y2 with q | q <;> omega
theorem RuR.ob56 {i x l h : Nat} (r : RuR p w τ f i x l h) : tg w x = 5 ∧ p + 8 < x ∧ fI w 56 x = i := ⟨r.1.1, r.1.2.1, r.1.2.2.1⟩
theorem LAID.rus {A : Nat} (h : LAID p w τ f F n A lo ps ro ru) {i : Nat} (hi : i < n) : ∃ l h', RuR p w τ f i (ru (16 * f + i)) l h' := by
  obtain ⟨-, -, ⟨l, h', -, -, -, s, -, s3⟩, -, -, -, ⟨r1, -⟩, -⟩ := h
  rw [r1 i hi]
  exact ⟨_, _, (s3 i hi).2⟩
theorem LAID.fr {A : Nat} {T : List Nat} (h : LAID p w τ f F n A lo ps ro ru) (W : WF p w) (fr : Fr T w w') (W' : WF p w') (hT : TkL p w F lo T) (eI : ∀ g, g ≠ 53 → g ≠ 54 → fI w' g F = fI w g F) (eR : ∀ g, g ≠ 52 → fR w' g F = fR w g F) (hx : KX τ σ) (K' : KR p w' σ) (hk : ∀ k, k < nK τ → kd w' p k = kd w p k) : LAID p w' σ f F n A lo ps ro ru ∧ ∀ π, plo w' F ps π = plo w F ps π := by
  have hru := fun i hi => h.rus (i := i) hi
  obtain ⟨a1, ⟨m, a2, a3⟩, ⟨l, h', a4⟩, ⟨a5, a6, a7⟩, ⟨a8, a9, a10, a11⟩, a12, ⟨a13, a14⟩, ⟨a15, a16, a17⟩, a18⟩ := h
  obtain ⟨⟨h1, h2, h3, h4, h5⟩, ⟨b1, b2⟩, ⟨c1, c2, c3⟩, ⟨d1, d2, d3⟩⟩ := id a1
  obtain ⟨⟨_, K, _⟩, hP, hC, -, hU, -⟩ := id a12
  have t : ∀ r, tg w r ≠ 0 → tg w' r = tg w r ∧ ln w' r = ln w r := fun r hr => fr.2.2.2.1 r (W.le hr)
  have o : ∀ r, p + 8 < r → (tg w r ≠ 0 ∧ tg w r ≠ 3 ∧ tg w r ≠ 4) → (tg w r = 115 → r = F + 3 ∨ lo < r) → ob w' r = ob w r := fun r q1 q2 q3 => fr.2.2.2.2 r (W.le q2.1) (hT.no W q1 q2 q3 h1)
  have o1 := o (F + 1) b2.2.2 (by rw [b2.1]; decide) (fun q => by rw [b2.1] at q; cases q)
  have o2 := o (F + 2) (by omega) (by rw [c2]; decide) (fun q => by rw [c2] at q; cases q)
  have o3 := o (F + 3) (by omega) (by rw [d2]; decide) (fun _ => Or.inl rfl)
  have oA := o A (by omega) (by rw [a10.1]; decide) (fun q => by rw [a10.1] at q; cases q)
  have hTk : TkF p w T := fun x hxm => by
    rcases hT x hxm with y | y | y | y | y2 | ⟨y1, y2, y3⟩
    · exact Or.inl y
    · exact Or.inr (Or.inl y)
    · exact Or.inr (Or.inr (Or.inr (Or.inr (Or.inr y))))
    · exact Or.inr (Or.inr (Or.inl (by rw [y]; exact h1)))
    · exact Or.inr (Or.inr (Or.inl y2))
    · exact Or.inr (Or.inr (Or.inr (Or.inr (Or.inl y2))))
  have er := x_rowsK hx f 0 n
  have T' := a12.kx a14 a18 W' K' hx hk ((t F (by rw [h1]; decide)).1.trans h1) (eI 51 (by decide) (by decide)) (eR 50 (by decide)) (by rw [d1]; exact o3) (fun r hr => by
    rcases hr with ⟨q1, q2 | q2 | q2⟩ | ⟨q1, q2 | q2⟩
    · exact o r (by omega) (by rw [q2]; decide) (fun _ => Or.inr q1)
    · exact o r (by omega) (by rw [q2]; decide) (fun _ => Or.inr q1)
    · exact o r (by omega) (by rw [q2]; decide) (fun _ => Or.inr q1)
    · exact o r q1 (by omega) (fun y => by omega)
    · exact o r q1 (by omega) (fun y => by omega)) (fun r q1 q2 => o r q2 (by rw [q1]; decide) (fun y => by rw [q1] at y; cases y)) (fun x hxr => by
    obtain ⟨k, k1, k2, -⟩ := (rowsK_mem n).mp hxr
    obtain ⟨_, _, r⟩ := hru k k1
    rw [k2]
    exact r.ob56.2.1)
  unfold LAID
  rw [er]
  refine ⟨⟨a1.keep t (fun g hg => eI g (by omega) (by omega)) (fun g hg => eR g (by omega)) (hx.a (by decide) (by decide) _), ⟨m, a2.keep (eI 46 (by decide) (by decide)) (fun j => ob.eaI o1 j) hx, a3⟩, ⟨l, h', a4.keep (eI 48 (by decide) (by decide)) (fun i => ob.eaR o2 i) W fr hTk hx (hx.kdk K hk)⟩, ⟨fun i hi => by rw [hx.a (by decide) (by decide)]; exact a5 i hi, a6, a7⟩, ⟨by rw [eR 49 (by decide)]; exact a8, a9, ⟨by rw [ob.etg oA]; exact a10.1, by rw [ob.eln oA]; exact a10.2.1, fun i x hi => by rw [ob.eaR oA]; exact a10.2.2 i x hi⟩, by rw [ob.eln oA]; exact a11⟩, T'.1.1, ⟨fun i hi => by rw [ob.eaR o2]; exact a13 i hi, T'.1.2⟩, ⟨a15, a16, Nat.le_trans a17 fr.1⟩, fun k j π hm => ?_⟩, T'.2⟩
  rcases a18 k j π hm with q | q
  · exact Or.inl q
  · exact Or.inr ⟨Nat.lt_of_lt_of_le q.1 hx.2.1, q.2⟩
theorem rowsK_len (h : ∀ i, i < n → 0 ≤ tA τ 49 (16 * f + i : Nat)) : ∀ k, k ≤ n → ((rowsK τ f 0 k).length : Int) = sumR τ f k := by
  intro k
  induction k with
  | zero => intro _; rfl
  | succ k ih =>
    intro hk
    have q := ih (by omega)
    have h0 := h k (by omega)
    have e : (rowsK τ f 0 (k + 1)).length = (rowsK τ f 0 k).length + (tA τ 49 (16 * f + k : Nat)).toNat := by
      show (rowsK τ f 0 k ++ (if (0 : Int) ≠ 0 ∧ _ then [] else _)).length = _
      rw [if_neg (fun y => y.1 rfl), List.length_append, rwsR_len]
    unfold sumR
    omega
/-- rows of a text that was judged -/
theorem judged_rows (hN : FN p w τ) (hf : f < nF τ) (hs : sumR τ f (rk τ f) ≤ 40) : (∀ i, i < rk τ f → tA τ 49 (16 * f + i : Nat) ≤ 40) ∧ (rowsK τ f 0 (rk τ f)).length ≤ 40 := by
  have h1 : ∀ i, i < rk τ f → 1 ≤ tA τ 49 (16 * f + i : Nat) := fun i hi => (rur_rows ((hN.gl hf).2.2.2.2.2.2 i hi).choose_spec.choose_spec).1
  have el := rowsK_len (τ := τ) (f := f) (n := rk τ f) (fun i hi => by have := h1 i hi; omega)
  have e := el (rk τ f) (Nat.le_refl _)
  refine ⟨fun i hi => ?_, by omega⟩
  have e1 := el (i + 1) (by omega)
  have e0 := el i (by omega)
  have mono := rowsK_mono (τ := τ) f 0 (show i + 1 ≤ rk τ f by omega)
  unfold sumR at e1
  omega
theorem FC.le24 {m : Nat} (h : FC w τ f F m) : m ≤ 3 := h.2.2.1
theorem sC_laid {lim : Int} {l h' : Nat} (hF : F = fnr w p f) (hL : FL p w τ f l h') (W : WF p w) (hK : KR p w τ) (hs : (∀ i, i < n → tA τ 49 (16 * f + i : Nat) ≤ 40) ∧ (rowsK τ f 0 n).length ≤ 40) (hn : tA τ 45 f = n) (hnp : np τ ≤ 800) (f12 : f < 12) (hh : l + wsF τ f n ≤ h' ∧ h' ≤ np τ) (hp8 : p + 8 ≤ cz w) (hm : lim ≤ mu w ∧ lim ≤ 5 * mz w) (hlim : zm w + 480 * wsF τ f n + 36000 ≤ lim) {Q : ZRes → CW → Prop}
    (hQ : ∀ w' A ps ro ru, LAID p w' τ f F n A (cz w) ps ro ru → ps.length ≤ wsF τ f n → Fr [F, F + 3] w w' → PF [] p w w' → WF p w' → zm w' ≤ zm w + 2005 + 500 * wsF τ f n → Q (.inl none) w') : wpC p (d + 40) 86 [ar F] w Q := by
  obtain ⟨m, k, h1, h2, h3, h4, h5⟩ := hL
  rw [← hF] at h1 h2 h4 h5
  have hkn : k = n := by have := h4.1; omega
  subst hkn
  obtain ⟨g1, g2, g3, s, g4, g5⟩ := id h4
  obtain ⟨⟨t1, t2, t3, t4, t5⟩, ⟨b1, b2⟩, ⟨c1, c2, c3⟩, ⟨d1, d2, d3⟩⟩ := id h1
  obtain ⟨q1, q2, q3, q4⟩ := id h2
  have hw : ∀ i, i < k → ∃ l h', RuR p w τ f i (aR w (F + 2) (i : Nat)) l h' := fun i hi => ⟨_, _, (g5 i hi).2⟩
  have hwh : ∀ i, i < k → RP τ (16 * f + i) m ∧ RUL p w τ (16 * f + i) (aR w (F + 2) (i : Nat)) m ∧ ∀ j c : Nat, (cks τ (16 * f + i))[j]? = some c → tA τ 18 c = tA τ 44 (3 * f + j : Nat) := fun i hi => by
    obtain ⟨l, h', r⟩ := hw i hi
    obtain ⟨m', r1, r2, r3, -, r5⟩ := r.whole hK (hs.1 i hi)
    have : m' = m := by omega
    subst this
    exact ⟨r2, r3, r5⟩
  have hB : BS p (cz w) w τ F := ⟨W, rfl, hK, ⟨t1, t2⟩, by rw [d1]; exact d2, by rw [d1]; omega⟩
  have hP0 : PL p w (nK τ) F (srP τ f) [] := ⟨h5, by rw [d1]; exact ⟨d2, d3, by omega⟩, List.nodup_nil, Nat.zero_le _, fun i π hi => by simp at hi⟩
  have hAl := allF_len (τ := τ) (f := f) (m := m) k (fun i hi => (hwh i hi).1)
  have hof := off_len (τ := τ) (f := f) (bare := 0) (m := m) k (fun i hi => (hwh i hi).1)
  refine sC_lay (d := d) (n := k) (m := m) (lim := lim) hB hP0 g2 g3 (fun i hi => by rw [c1]; exact (hwh i hi).2.1) (by rw [c1]; exact ⟨c2, c3⟩) q2 (by rw [b1]; exact ⟨b2, fun j hj => (q4 j hj).1⟩) (by omega) (by omega) hs.2 hm (by omega) (fun w' ps A hLS hall => ?_)
  obtain ⟨⟨l1, l2, l3⟩, lP, ⟨l4, l5, l6⟩, ⟨l7, l8, l9, l10⟩, l11, l12⟩ := hLS
  rw [d1] at l1
  have psl : ps.length ≤ (allF τ f k).length := List.Nodup.length_le_of_subset lP.2.2.1 (fun y hy => hall y hy)
  obtain ⟨K', ek⟩ := hB.kr (w := w') (by rw [d1]; exact l1) l2
  have lF := W.le (r := F) (by rw [t1]; decide)
  have l3' := W.le (r := F + 3) (by rw [d2]; decide)
  have oo : ∀ r, p + 8 < r → tg w r ≠ 0 → tg w r ≠ 4 → tg w r ≠ 115 → ob w' r = ob w r := fun r _ q2 q3 q4 => l1.2.2.2.2 r (W.le q2) (fun y => by
    rcases List.mem_cons.mp y with y | y
    · rw [y, t1] at q3; exact q3 rfl
    · rw [List.mem_singleton.mp y, d2] at q4; exact q4 rfl)
  have o1 := oo (F + 1) b2.2.2 (by rw [b2.1]; decide) (by rw [b2.1]; decide) (by rw [b2.1]; decide)
  have o2 := oo (F + 2) (by omega) (by rw [c2]; decide) (by rw [c2]; decide) (by rw [c2]; decide)
  have tt : ∀ r, tg w r ≠ 0 → tg w' r = tg w r ∧ ln w' r = ln w r := fun r hr => l1.2.2.2.1 r (W.le hr)
  obtain ⟨rs, hrs⟩ : ∃ rs, rs = rowsK τ f 0 k := ⟨_, rfl⟩
  have nd : rs.Nodup := by rw [hrs]; exact rowsK_nodup k
  rw [← hrs] at l11 l8 l12 hof
  have hrsl : rs.length ≤ 40 := by rw [hrs]; exact hs.2
  obtain ⟨ro, hro⟩ : ∃ ro : Nat × Nat → Nat, ro = fun x => aR w' A (rs.idxOf x : Nat) := ⟨_, rfl⟩
  obtain ⟨ru, hru⟩ : ∃ ru : Nat → Nat, ru = fun R => aR w (F + 2) ((R - 16 * f : Nat) : Int) := ⟨_, rfl⟩
  have rui : ∀ i, ru (16 * f + i) = aR w (F + 2) (i : Nat) := fun i => by rw [hru]; show aR w (F + 2) ((16 * f + i - 16 * f : Nat) : Int) = _; rw [Nat.add_sub_cancel_left]
  have at' : ∀ x, x ∈ rs → rs[rs.idxOf x]? = some x := fun x hx => by
    have hl : rs.idxOf x < rs.length := List.idxOf_lt_length_iff.mpr hx
    rw [List.getElem?_eq_getElem hl, List.getElem_idxOf hl]
  have rowOf : ∀ x, x ∈ rs → RW p w' τ F ps (ro x) (ru x.1) (tsR τ x.1 x.2) (nbR τ x.1 x.2) ∧ RWl (cz w) w' (ro x) := fun x hx => by
    have := l11 _ x (at' x hx)
    rw [c1] at this
    rw [hro, hru]
    exact this
  have hCX : CX τ f rs := by
    rw [hrs]
    exact cx_rows hK hnp f12 g3 (fun i hi => ⟨(hwh i hi).1, (hwh i hi).2.2⟩) hs.2 (by omega)
  have ruf : ∀ x, x ∈ rs → ∃ i, i < k ∧ x.1 = 16 * f + i ∧ ∃ l h', RuR p w τ f i (ru x.1) l h' := fun x hx => by
    rw [hrs] at hx
    obtain ⟨i, i1, i2, -⟩ := (rowsK_mem k).mp hx
    rw [i2, rui]
    exact ⟨i, i1, rfl, hw i i1⟩
  have hT : TSt p w' τ f F ps rs ro ru := by
    refine ⟨⟨l3, K', (tt F (by rw [t1]; decide)).1.trans t1⟩, lP, hCX, fun x hx => (rowOf x hx).1, fun x hx => ?_, fun x y hx hy e => ?_⟩
    · obtain ⟨i, i1, i2, _, _, r⟩ := ruf x hx
      have r5 := r.ob56
      have ox := oo (ru x.1) r5.2.1 (by rw [r5.1]; decide) (by rw [r5.1]; decide) (by rw [r5.1]; decide)
      rw [ob.etg ox, ob.efR ox, i2]
      rw [i2] at r5
      refine ⟨r5.1, ?_⟩
      rw [i2] at r
      rcases r.2.choose_spec.2.2.1 with ⟨y1, y2⟩ | y
      · exact ⟨fun _ => y1, fun _ => y2⟩
      · refine ⟨fun q => ?_, fun q => ?_⟩
        · have := y.1.1
          rw [q, W.1] at this
          cases this
        · have := y.2.2.2.2.2.2
          omega
    · obtain ⟨i, i1, i2, _, _, r⟩ := ruf x hx
      obtain ⟨j, j1, j2, _, _, r'⟩ := ruf y hy
      have q := r.ob56.2.2
      have q' := r'.ob56.2.2
      rw [e, q'] at q
      omega
  refine hQ w' A ps ro ru ⟨h1.keep tt (fun g hg => l4 g (by omega)) (fun g hg => l5 g (by omega)) rfl, ⟨m, h2.keep (l4 46 (by decide)) (fun j => ob.eaI o1 j) (KX.refl τ), h3⟩, ⟨l, h', h4.keep (l4 48 (by decide)) (fun i => ob.eaR o2 i) W l1 (fun x hx => ?_) (KX.refl τ) ((KX.refl τ).kdk hK (fun k _ => ek k))⟩, ⟨hs.1, hs.2, f12⟩, ⟨l6, l9, ?_, by rw [← hrs]; rw [l8, hrs]⟩, by rw [← hrs]; exact hT, ⟨fun i _ => by rw [rui, ob.eaR o2], fun x hx => (rowOf x (by rw [hrs]; exact hx)).2⟩, ⟨hp8, l3', l1.1⟩, PSo.all (n := k) (m := m) (fun i hi => (hwh i hi).1) hall⟩ (by omega) l1 l2 l3 ?_
  · rcases List.mem_cons.mp hx with y | y
    · exact Or.inr (Or.inr (Or.inl (by rw [y]; exact t1)))
    · exact Or.inr (Or.inr (Or.inr (Or.inr (Or.inl (by rw [List.mem_singleton.mp y]; exact d2)))))
  · rw [← hrs]
    refine ⟨l7, by rw [l8, hrs]; exact Nat.le_refl _, fun i x hi => ?_⟩
    have hx := List.mem_of_getElem? hi
    have : rs.idxOf x = i := (List.getElem?_inj (List.getElem?_eq_some_iff.mp (at' x hx)).1 nd).mp ((at' x hx).trans hi.symm)
    rw [hro]
    show aR w' A i = aR w' A (rs.idxOf x : Nat)
    rw [this]
  · omega
end ZLayd
