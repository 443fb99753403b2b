/-! the component's places -/
section ZPlace
variable {p b e d : Nat} {w : CW} {τ : TW}
/-- a place's object; 0: none above -/
def plo (w : CW) (F : Nat) (ps : List Pa) (π : Pa) : Nat := if π = [] then 0 else aR w (fR w 50 F) (ps.idxOf π : Nat)
def kio (w : CW) (p k : Nat) : Nat := if k = 24 then 0 else kd w p k
def PO (p : Nat) (w : CW) (nk F : Nat) (S : Pa → Int) (ps : List Pa) (i : Nat) (π : Pa) (r : Nat) : Prop := tg w r = 15 ∧ p + 8 < r ∧ fI w 89 r = i ∧ ∃ k j π', π = (k, j) :: π' ∧ ((π' = [] ∧ k = 24) ∨ (π' ∈ ps ∧ k < nk)) ∧ fI w 87 r = j ∧ fI w 90 r = (π'.length : Nat) ∧ fR w 85 r = plo w F ps π' ∧ fR w 86 r = kio w p k ∧ fI w 88 r = S π
/-- the places of a function F -/
def PL (p : Nat) (w : CW) (nk F : Nat) (S : Pa → Int) (ps : List Pa) : Prop := fI w 51 F = ps.length ∧ (tg w (fR w 50 F) = 115 ∧ ln w (fR w 50 F) = 900 ∧ p + 8 < fR w 50 F) ∧ ps.Nodup ∧ ps.length ≤ 900 ∧ ∀ i π, ps[i]? = some π → PO p w nk F S ps i π (aR w (fR w 50 F) (i : Nat))
theorem PL.at {nk F : Nat} {S : Pa → Int} {ps : List Pa} (h : PL p w nk F S ps) {π : Pa} (hp : π ∈ ps) : π ≠ [] ∧ ps.idxOf π < ps.length ∧ ps[ps.idxOf π]? = some π ∧ PO p w nk F S ps (ps.idxOf π) π (plo w F ps π) := by
  have hl : ps.idxOf π < ps.length := List.idxOf_lt_length_iff.mpr hp
  have e : ps[ps.idxOf π]? = some π := by rw [List.getElem?_eq_getElem hl, List.getElem_idxOf hl]
  have q := h.2.2.2.2 _ _ e
  have ne : π ≠ [] := by
    obtain ⟨-, -, -, k, j, π', e1, -⟩ := q
    rw [e1]; simp
  refine ⟨ne, hl, e, ?_⟩
  unfold plo
  rw [if_neg ne]
  exact q
theorem PL.inj {nk F : Nat} {S : Pa → Int} {ps : List Pa} (h : PL p w nk F S ps) {π ρ : Pa} (hp : π = [] ∨ π ∈ ps) (hr : ρ = [] ∨ ρ ∈ ps) (e : plo w F ps π = plo w F ps ρ) : π = ρ := by
  have z0 : plo w F ps [] = 0 := by unfold plo; rw [if_pos rfl]
  rcases hp with hp | hp
  · rcases hr with hr | hr
    · rw [hp, hr]
    · have := (h.at hr).2.2.2.2.1
      rw [hp, z0] at e
      omega
  · rcases hr with hr | hr
    · have := (h.at hp).2.2.2.2.1
      rw [hr, z0] at e
      omega
    · have a := h.at hp
      have b := h.at hr
      have a1 := a.2.2.2.2.2.1
      have b1 := b.2.2.2.2.2.1
      rw [e, b1] at a1
      have e1 := a.2.2.1
      have e2 := b.2.2.1
      rw [show ps.idxOf ρ = ps.idxOf π by omega, e1] at e2
      exact Option.some.inj e2
theorem kio_inj (hK : KR p w τ) {k k' : Nat} (h : k = 24 ∨ k < nK τ) (h' : k' = 24 ∨ k' < nK τ) (e : kio w p k = kio w p k') : k = k' := by
  have k24 : nK τ ≤ 24 := by have := hK.2.2.2.1; unfold nK; omega
  have pos : ∀ k, k < nK τ → kd w p k ≠ 0 := fun k hk => by have := (hK.2.2.2.2.1 k hk).2.1; omega
  unfold kio at e
  rcases h with h | h <;> rcases h' with h' | h'
  · rw [h, h']
  · rw [if_pos h, if_neg (by omega)] at e
    exact absurd e.symm (pos _ h')
  · rw [if_neg (by omega), if_pos h'] at e
    exact absurd e (pos _ h)
  · rw [if_neg (by omega), if_neg (by omega)] at e
    exact hK.inj h h' e
/-- a place more -/
def plW (w : CW) (F x1 x2 : Nat) (x3 x4 : Int) (dp : Int) : CW := pI (qR (pI (pI (pI (pI (pR (pR (nO w 15 6) 85 (cz w + 1) x1) 86 (cz w + 1) x2) 87 (cz w + 1) x3) 88 (cz w + 1) x4) 89 (cz w + 1) (fI w 51 F)) 90 (cz w + 1) dp) (fR w 50 F) (fI w 51 F) (cz w + 1)) 51 F (fI w 51 F + 1)
/-- what asking for a place leaves -/
def PLG (p : Nat) (w w' : CW) (F : Nat) (ps ps' : List Pa) (π : Pa) : Prop := Fr [F, fR w 50 F] w w' ∧ PF [] p w w' ∧ WF p w' ∧ (∀ f, f ≠ 51 → fI w' f F = fI w f F) ∧ (∀ f, fR w' f F = fR w f F) ∧ (∀ i : Nat, i < ps.length → aR w' (fR w 50 F) i = aR w (fR w 50 F) i) ∧ (ps' = ps ∨ ps' = ps ++ [π]) ∧ zm w' ≤ zm w + 11 * (ps'.length - ps.length)
theorem plW_st (W : WF p w) {F x1 x2 : Nat} {x3 x4 dp : Int} (hF : tg w F = 4 ∧ p + 8 < F) (hA : tg w (fR w 50 F) = 115 ∧ p + 8 < fR w 50 F) : Fr [F, fR w 50 F] w (plW w F x1 x2 x3 x4 dp) ∧ PF [] p w (plW w F x1 x2 x3 x4 dp) ∧ WF p (plW w F x1 x2 x3 x4 dp) ∧ (∀ f, f ≠ 51 → fI (plW w F x1 x2 x3 x4 dp) f F = fI w f F) ∧ (∀ f, fR (plW w F x1 x2 x3 x4 dp) f F = fR w f F) := by
  have h1 : cz w < cz w + 1 := Nat.lt_succ_self _
  have hz := W.pz
  have lF := W.le (r := F) (by rw [hF.1]; decide)
  have hne : p ≠ cz w + 1 := by omega
  have hnF : F ≠ cz w + 1 := by omega
  unfold plW
  refine ⟨?_, ?_, ?_, fun f hf => ?_, fun f => ?_⟩
  · exact ((((((((((Fr.refl [F, fR w 50 F] w).snO).spR (Or.inr h1)).spR (Or.inr h1)).spI (Or.inr h1)).spI (Or.inr h1)).spI (Or.inr h1)).spI (Or.inr h1)).sqR (Or.inl (by simp))).spI (Or.inl (by simp)))
  · exact ((((((((((PF.refl [] p w).snO hz).spR (Or.inr hne)).spR (Or.inr hne)).spI (Or.inr hne)).spI (Or.inr hne)).spI (Or.inr hne)).spI (Or.inr hne)).sqR).spI (Or.inr (by omega)))
  · exact ((((((((W.snO 15 6).spR _ _ _).spR _ _ _).spI _ _ _).spI _ _ _).spI _ _ _).spI _ _ _).sqR _ _ _).spI _ _ _ (Or.inr (by omega))
  · simp [fI_pI, fI_qR, fI_pR, fI_nO, hf, hnF]
  · simp [fR_pI, fR_qR, fR_pR, fR_nO, hnF]
theorem plo_ext {v : CW} {F : Nat} {ps : List Pa} {ρ : Pa} (hr : fR v 50 F = fR w 50 F) (ha : ∀ i : Nat, i < ps.length → aR v (fR w 50 F) i = aR w (fR w 50 F) i) (h : ρ = [] ∨ ρ ∈ ps) (more : List Pa) : plo v F (ps ++ more) ρ = plo w F ps ρ := by
  unfold plo
  by_cases z : ρ = []
  · rw [if_pos z, if_pos z]
  · rw [if_neg z, if_neg z, hr]
    rcases h with y | y
    · exact absurd y z
    · have : (ps ++ more).idxOf ρ = ps.idxOf ρ := by rw [List.idxOf_append, if_pos y]
      rw [this]
      exact ha _ (List.idxOf_lt_length_iff.mpr y)
theorem PL.grow {nk F : Nat} {S : Pa → Int} {ps : List Pa} (W : WF p w) (hK : KR p w τ) (hnk : nk = nK τ) (hf : tg w F = 4 ∧ p + 8 < F) (h : PL p w nk F S ps) {k j : Nat} {π' : Pa} (hv : (π' = [] ∧ k = 24) ∨ (π' ∈ ps ∧ k < nk)) (hlen : ps.length < 900) (hnot : (k, j) :: π' ∉ ps) {x1 x2 : Nat} {x3 x4 : Int} (e1 : x1 = plo w F ps π') (e2 : x2 = kio w p k) (e3 : x3 = j) (e4 : x4 = S ((k, j) :: π')) :
    PLG p w (plW w F x1 x2 x3 x4 (π'.length : Nat)) F ps (ps ++ [(k, j) :: π']) ((k, j) :: π') ∧ PL p (plW w F x1 x2 x3 x4 (π'.length : Nat)) nk F S (ps ++ [(k, j) :: π']) ∧ plo (plW w F x1 x2 x3 x4 (π'.length : Nat)) F (ps ++ [(k, j) :: π']) ((k, j) :: π') = cz w + 1 ∧ aR (plW w F x1 x2 x3 x4 (π'.length : Nat)) (fR w 50 F) (fI w 51 F) = cz w + 1 := by
  obtain ⟨p1, ⟨p2, p3, p4⟩, p5, p6, p7⟩ := id h
  obtain ⟨s1, s2, s3, s4, s5⟩ := plW_st (x1 := x1) (x2 := x2) (x3 := x3) (x4 := x4) (dp := (π'.length : Nat)) W hf ⟨p2, p4⟩
  obtain ⟨v, hvv⟩ : ∃ v, v = plW w F x1 x2 x3 x4 (π'.length : Nat) := ⟨_, rfl⟩
  rw [← hvv] at s1 s2 s3 s4 s5 ⊢
  have hz := W.pz
  have lF := W.le (r := F) (by rw [hf.1]; decide)
  have lA := W.le (r := fR w 50 F) (by rw [p2]; decide)
  have rv := s5 50
  have av : ∀ i : Nat, aR v (fR w 50 F) i = if i = ps.length then cz w + 1 else aR w (fR w 50 F) i := fun i => by
    rw [hvv]
    show (if fR w 50 F = fR w 50 F ∧ (i : Int) = fI w 51 F then cz w + 1 else aR w (fR w 50 F) i) = _
    rw [p1]
    by_cases z : i = ps.length
    · rw [if_pos ⟨rfl, by omega⟩, if_pos z]
    · rw [if_neg (by omega), if_neg z]
  have ao : ∀ i : Nat, i < ps.length → aR v (fR w 50 F) i = aR w (fR w 50 F) i := fun i hi => by rw [av, if_neg (by omega)]
  have ek : ∀ k, kio v p k = kio w p k := fun k => by
    have l0 := W.le (r := fR w 0 p) (by rw [hK.1.1]; decide)
    have : kd v p k = kd w p k := by
      unfold kd
      rw [(s2 0 (by decide)).2]
      have q : fR w 0 p ≤ p + 8 := hK.1.2.2.2.1
      exact ob.eaR (s1.2.2.2.2 _ l0 (fun y => by
        rcases List.mem_cons.mp y with y | y
        · omega
        · have := List.mem_singleton.mp y
          omega)) k
    unfold kio
    rw [this]
  have eplo : ∀ ρ, ρ = [] ∨ ρ ∈ ps → plo v F (ps ++ [(k, j) :: π']) ρ = plo w F ps ρ := fun ρ hr => plo_ext rv ao hr _
  have eidx : (ps ++ [(k, j) :: π']).idxOf ((k, j) :: π') = ps.length := by
    rw [List.idxOf_append, if_neg hnot]
    simp
  have enew : plo v F (ps ++ [(k, j) :: π']) ((k, j) :: π') = cz w + 1 := by
    unfold plo
    rw [if_neg (by simp), eidx, rv, av, if_pos rfl]
  refine ⟨⟨s1, s2, s3, s4, s5, ao, Or.inr rfl, ?_⟩, ⟨?_, ?_, ?_, ?_, fun i π hi => ?_⟩, enew, ?_⟩
  · have z1 : cz v = cz w + 1 := by rw [hvv]; rfl
    have z2 : cu v = cu w + 6 := by rw [hvv]; rfl
    unfold zm
    rw [z1, z2, List.length_append]
    simp
    omega
  · rw [hvv, List.length_append]
    show (if 51 = 51 ∧ F = F then fI w 51 F + 1 else _) = _
    rw [if_pos ⟨rfl, rfl⟩, p1]
    simp
  · rw [rv]
    have := s1.2.2.2.1 _ lA
    exact ⟨this.1.trans p2, this.2.trans p3, p4⟩
  · rw [List.nodup_append]
    exact ⟨p5, by simp, fun a ha b hb => by
      have : b = (k, j) :: π' := by simpa using hb
      rw [this]
      intro q
      exact hnot (by rw [← q]; exact ha)⟩
  · rw [List.length_append]; simp; omega
  · rw [rv]
    rcases Nat.lt_or_ge i ps.length with u | u
    · rw [List.getElem?_append_left u] at hi
      obtain ⟨o1, o2, o3, k1, j1, π1, o4, o5, o6, o7, o8, o9, o10⟩ := p7 i π hi
      rw [ao i u]
      have lo := W.le (r := aR w (fR w 50 F) (i : Nat)) (by rw [o1]; decide)
      have ob1 := s1.2.2.2.2 _ lo (fun y => by
        rcases List.mem_cons.mp y with y | y
        · rw [y, hf.1] at o1; cases o1
        · rw [List.mem_singleton.mp y, p2] at o1; cases o1)
      unfold PO
      rw [ob.etg ob1, ob.efI ob1, ob.efI ob1, ob.efI ob1, ob.efI ob1, ob.efR ob1, ob.efR ob1]
      refine ⟨o1, o2, o3, k1, j1, π1, o4, ?_, o6, o7, ?_, ?_, o10⟩
      · rcases o5 with y | y
        · exact Or.inl y
        · exact Or.inr ⟨List.mem_append_left _ y.1, y.2⟩
      · rw [eplo π1 (by rcases o5 with y | y; exact Or.inl y.1; exact Or.inr y.1)]; exact o8
      · rw [ek]; exact o9
    · have hl := (List.getElem?_eq_some_iff.mp hi).1
      rw [List.length_append] at hl
      have hi2 : i = ps.length := by simp at hl; omega
      subst hi2
      have eπ : π = (k, j) :: π' := by
        rw [List.getElem?_append_right (Nat.le_refl _)] at hi
        simpa using hi.symm
      subst eπ
      rw [av, if_pos rfl]
      have hnA : cz w + 1 ≠ F := by omega
      refine ⟨?_, by omega, ?_, k, j, π', rfl, ?_, ?_, ?_, ?_, ?_, ?_⟩
      · rw [hvv]; exact if_pos rfl
      · rw [hvv, ← p1]; simp [plW, fI_pI, fI_qR, fI_pR, hnA]
      · rcases hv with y | y
        · exact Or.inl y
        · exact Or.inr ⟨List.mem_append_left _ y.1, y.2⟩
      · rw [hvv]; simp [plW, fI_pI, fI_qR, fI_pR, hnA, e3]
      · rw [hvv]; simp [plW, fI_pI, fI_qR, fI_pR, hnA]
      · rw [eplo π' (by rcases hv with y | y; exact Or.inl y.1; exact Or.inr y.1), ← e1, hvv]; simp [plW, fR_pI, fR_qR, fR_pR, hnA]
      · rw [ek, ← e2, hvv]; simp [plW, fR_pI, fR_qR, fR_pR, hnA]
      · rw [hvv, ← e4]; simp [plW, fI_pI, fI_qR, fI_pR, hnA]
  · rw [p1, av, if_pos rfl]
theorem sC_place {nk F : Nat} {S : Pa → Int} {ps : List Pa} (W : WF p w) (hK : KR p w τ) (hnk : nk = nK τ) (hf : tg w F = 4 ∧ p + 8 < F) (h : PL p w nk F S ps) {k j : Nat} {π' : Pa} (hv : (π' = [] ∧ k = 24) ∨ (π' ∈ ps ∧ k < nk)) (hj : j < 1000) (hlen : (k, j) :: π' ∉ ps → ps.length < 900) (hm : cz w + 1 ≤ mz w ∧ cu w + 6 ≤ mu w) (hd : π'.length < 1000) {x1 x2 : Nat} {x3 x4 : Int} (e1 : x1 = plo w F ps π') (e2 : x2 = kio w p k) (e3 : x3 = j) (e4 : x4 = S ((k, j) :: π')) {Q : ZRes → CW → Prop}
    (hQ : ∀ w' ps', PLG p w w' F ps ps' ((k, j) :: π') → PL p w' nk F S ps' → (k, j) :: π' ∈ ps' → Q (.inl (some (ar (plo w' F ps' ((k, j) :: π'))))) w') : wpC p (d + 2) 87 [ar F, ar x1, ar x2, ai x3, ai x4] w Q := by
  obtain ⟨p1, ⟨p2, p3, p4⟩, p5, p6, p7⟩ := id h
  have hz := W.pz
  have lF := W.le (r := F) (by rw [hf.1]; decide)
  have lA := W.le (r := fR w 50 F) (by rw [p2]; decide)
  refine wC_X4_place (Nat.zero_le _) (bC_X4_place_0 (bC_X4_place_3 ?_))
  intro I hI
  have key : ∀ n i : Nat, i + n = ps.length → (∀ y, y < i → ps[y]? ≠ some ((k, j) :: π')) → I (i : Int) w := by
    intro n
    induction n with
    | zero =>
      intro i hi hno
      have hi : i = ps.length := by omega
      have hnot : (k, j) :: π' ∉ ps := fun hm => by
        have q := (h.at hm)
        exact hno _ (by omega) q.2.2.1
      have hlen := hlen hnot
      refine hI _ _ ⟨by rw [hf.1]; decide, br1 (by rw [p1, hi]; exact Int.le_refl _) (bC_X4_place_57 ⟨by rw [hf.1]; decide, by rw [hf.1]; decide, hm, fa ⟨?_, ?_⟩⟩)⟩
      · show hF 51 (if F = cz w + 1 then 15 else tg w F) = true
        rw [if_neg (by omega), hf.1]; decide
      have e51 : fI (nO w 15 6) 51 F = fI w 51 F := by
        show (if F = cz w + 1 then 0 else fI w 51 F) = _
        rw [if_neg (by omega)]
      rw [e51]
      have tN : tg (nO w 15 6) (cz w + 1) = 15 := if_pos rfl
      have tX : ∀ r, tg (nO w 15 6) r = if r = cz w + 1 then 15 else tg w r := fun _ => rfl
      have x1c : x1 = 0 ∧ π'.length = 0 ∨ x1 ≠ 0 ∧ tg w x1 = 15 ∧ x1 ≤ cz w ∧ π'.length ≠ 0 ∧ fI w 90 x1 = ((π'.length - 1 : Nat) : Int) := by
        rcases hv with ⟨v1, v2⟩ | ⟨v1, v2⟩
        · left
          rw [e1, v1]
          exact ⟨by unfold plo; rw [if_pos rfl], rfl⟩
        · right
          have a := h.at v1
          obtain ⟨o1, o2, o3, ka, ja, πa, o4, o5, o6, o7, -⟩ := a.2.2.2
          rw [e1]
          refine ⟨by omega, o1, W.le (by rw [o1]; decide), by rw [o4]; simp, ?_⟩
          rw [o7, o4]
          rfl
      refine wC_X17_init (Nat.zero_le _) (bC_X17_init_0 ⟨by omega, by rw [tN]; decide, fa ⟨by show hP 86 (tg (nO w 15 6) (cz w + 1)) = true; rw [tN]; decide, fa ⟨by show hP 87 (tg (nO w 15 6) (cz w + 1)) = true; rw [tN]; decide, fa ⟨by show hP 88 (tg (nO w 15 6) (cz w + 1)) = true; rw [tN]; decide, fa ⟨by show hP 89 (tg (nO w 15 6) (cz w + 1)) = true; rw [tN]; decide, fa ⟨?_, ?_⟩⟩⟩⟩⟩⟩)
      · intro n0
        show hF 90 (if x1 = cz w + 1 then 15 else tg w x1) = true
        rcases x1c with ⟨c1, -⟩ | ⟨c1, c2, c3, c4, c5⟩
        · exact absurd c1 n0
        · rw [if_neg (by omega), c2]; decide
      · refine fa ⟨by show hP 90 (tg (nO w 15 6) (cz w + 1)) = true; rw [tN]; decide, fa ?_⟩
        have dp : ∀ y : CW, (∀ r, r ≤ cz w → fI y 90 r = fI w 90 r) → (if x1 = 0 then (0 : Int) else w32 (fI y 90 x1 + 1)) = (π'.length : Nat) := fun y hy => by
          rcases x1c with ⟨c1, c2⟩ | ⟨c1, c2, c3, c4, c5⟩
          · rw [if_pos c1, c2]; rfl
          · rw [if_neg c1, hy _ c3, c5, w32_s (by omega) (by omega)]
            omega
        rw [dp _ (fun r hr => by simp [fI_pI, fI_pR, fI_nO, show ¬ r = cz w + 1 by omega])]
        obtain ⟨u, hu⟩ : ∃ u, u = pI (pI (pI (pI (pR (pR (nO w 15 6) 85 (cz w + 1) x1) 86 (cz w + 1) x2) 87 (cz w + 1) x3) 88 (cz w + 1) x4) 89 (cz w + 1) (fI w 51 F)) 90 (cz w + 1) (π'.length : Nat) := ⟨_, rfl⟩
        have tu : ∀ r, tg u r = if r = cz w + 1 then 15 else tg w r := fun r => by rw [hu]; rfl
        have lu : ∀ r, ln u r = ln w r := fun r => by rw [hu]; rfl
        have fu51 : fI u 51 F = fI w 51 F := by rw [hu]; simp [fI_pI, fI_pR, fI_nO, show ¬ F = cz w + 1 by omega]
        have ru50 : fR u 50 F = fR w 50 F := by rw [hu]; simp [fR_pI, fR_pR, fR_nO, show ¬ F = cz w + 1 by omega]
        have tA : tg u (fR w 50 F) = 115 := by rw [tu, if_neg (by omega), p2]
        have lA' : ln u (fR w 50 F) = 900 := by rw [lu, p3]
        have tF : tg u F = 4 := by rw [tu, if_neg (by omega), hf.1]
        have tC : tg u (cz w + 1) = 15 := by rw [tu, if_pos rfl]
        rw [← hu]
        have ez : w32 (fI (qR u (fR w 50 F) (fI w 51 F) (cz w + 1)) 51 F + 1) = fI w 51 F + 1 := by
          show w32 (fI u 51 F + 1) = _
          rw [fu51, w32_s (by omega) (by omega)]
        obtain ⟨v, hvw⟩ : ∃ v, v = pI (qR u (fR w 50 F) (fI w 51 F) (cz w + 1)) 51 F (fI w 51 F + 1) := ⟨_, rfl⟩
        have ev : v = plW w F x1 x2 x3 x4 (π'.length : Nat) := by rw [hvw, hu]; rfl
        have fv51 : fI v 51 F = fI w 51 F + 1 := by rw [hvw, fI_at]
        have rv50 : fR v 50 F = fR w 50 F := by rw [hvw]; exact ru50
        have tv : ∀ r, tg v r = tg u r := fun r => by rw [hvw]; rfl
        have lv : ∀ r, ln v r = ln u r := fun r => by rw [hvw]; rfl
        have em : w32 (fI v 51 F - 1) = fI w 51 F := by rw [fv51, w32_s (by omega) (by omega)]; omega
        refine ⟨⟨by rw [tA]; decide, by rw [p1]; omega, by rw [lA', p1]; omega⟩, Or.inr (by rw [tA, tC]; decide), fa ⟨by show hF 51 (tg u F) = true; rw [tF]; decide, by show hP 51 (tg u F) = true; rw [tF]; decide, ?_⟩⟩
        rw [ez]
        refine fa ?_
        rw [← hvw, em, rv50, tv, tv, lv, tA, lA', tF]
        refine ⟨by decide, by decide, ⟨by decide, by rw [p1]; omega, by rw [p1]; omega⟩, ?_⟩
        obtain ⟨g1, g2, g3, g4⟩ := PL.grow W hK hnk hf h hv (by omega) hnot (x1 := x1) (x2 := x2) (x3 := x3) (x4 := x4) e1 e2 e3 e4
        rw [← ev] at g1 g2 g3 g4
        have := hQ v (ps ++ [(k, j) :: π']) g1 g2 (by simp)
        rw [g3] at this
        rw [g4]
        exact this
    | succ n ih =>
      intro i hi hno
      have hil : i < ps.length := by omega
      obtain ⟨ρ, hρ⟩ : ∃ ρ, ps[i]? = some ρ := ⟨ps[i], List.getElem?_eq_getElem hil⟩
      obtain ⟨o1, o2, o3, k1, j1, π1, o4, o5, o6, o7, o8, o9, o10⟩ := p7 i ρ hρ
      refine hI _ _ ⟨by rw [hf.1]; decide, br0 (by rw [p1]; omega) ⟨by rw [hf.1]; decide, ⟨by rw [p2]; decide, by omega, by rw [p3]; omega⟩, fa ⟨by rw [o1]; decide, fun _ => ⟨by rw [o1]; decide, fun _ => by rw [o1]; decide⟩, ?_⟩⟩⟩
      by_cases z : ρ = (k, j) :: π'
      · rw [o4] at z
        injection z with z1 z2
        injection z1 with z3 z4
        have hmem : (k, j) :: π' ∈ ps := by
          have := List.mem_of_getElem? hρ
          rw [o4, z3, z4, z2] at this
          exact this
        refine br1 ⟨by rw [o8, z2, e1], by rw [o9, z3, e2], by rw [o6, z4, e3]⟩ (bC_X4_place_48 (call := wpC p (d + 1)) ?_)
        have ei : ps.idxOf ((k, j) :: π') = i := by
          have a := (h.at hmem).2.2.1
          rw [o4, z3, z4, z2] at hρ
          exact (List.getElem?_inj (h.at hmem).2.1 p5).mp (a.trans hρ.symm)
        have := hQ w ps ⟨Fr.refl _ _, PF.refl _ _ _, W, fun _ _ => rfl, fun _ => rfl, fun _ _ => rfl, Or.inl rfl, by omega⟩ h hmem
        have e0 : plo w F ps ((k, j) :: π') = aR w (fR w 50 F) (i : Nat) := by
          unfold plo
          rw [if_neg (by simp), ei]
        rw [e0] at this
        exact this
      · refine br0 (fun q => z ?_) (bC_X4_place_51 (call := wpC p (d + 1)) (fa ?_))
        · obtain ⟨q1, q2, q3⟩ := q
          rw [o8, e1] at q1
          rw [o9, e2] at q2
          rw [o6, e3] at q3
          have a1 := h.inj (by rcases o5 with y | y; exact Or.inl y.1; exact Or.inr y.1) (by rcases hv with y | y; exact Or.inl y.1; exact Or.inr y.1) q1
          have a2 := kio_inj hK (by rcases o5 with y | y; exact Or.inl y.2; exact Or.inr (by rw [← hnk]; exact y.2)) (by rcases hv with y | y; exact Or.inl y.2; exact Or.inr (by rw [← hnk]; exact y.2)) q2
          have a3 : j1 = j := by omega
          rw [o4, a1, a2, a3]
        · rw [w32_s (by omega) (by omega)]
          have := ih (i + 1) (by omega) (fun y hy => by
            rcases Nat.lt_or_ge y i with u | u
            · exact hno y u
            · rw [show y = i by omega, hρ]
              exact fun q => z (Option.some.inj q))
          exact this
  exact key ps.length 0 (by omega) (fun y hy => by omega)
end ZPlace
