/-! the component's trees: a test of a text -/
section ZTextt
variable {p b e d f F M n wy : Nat} {wS w : CW} {τ : TW} {rs rows : List (Nat × Nat)} {ps : List Pa} {P : Sp} {O : List (Pa × Int)} {ro : Nat × Nat → Nat} {ru : Nat → Nat}
theorem prs_ge {m : Nat} {cs : List (Br × Sp)} (hm : 1 ≤ m) : ∀ i, i ≤ cs.length → i ≤ prs τ rs wy m cs i := by
  obtain ⟨m', rfl⟩ : ∃ m', m = m' + 1 := ⟨m - 1, by omega⟩
  intro i
  induction i with
  | zero => intro _; exact Nat.zero_le _
  | succ i ih =>
    intro hi
    obtain ⟨y, hy⟩ : ∃ y, cs[i]? = some y := ⟨_, List.getElem?_eq_getElem (by omega)⟩
    rw [prs_s hy]
    have := ih (by omega)
    have := tsz_pos (τ := τ) (rs := rs) (wy := wy) (m := m') (P := y.2)
    omega
/-- a text more is out -/
def otW (u : CW) (M k pl : Nat) (t : Int) : CW := pI (qI (qR u (M + 4) (k : Nat) pl) (M + 5) (k : Nat) t) 105 (M + 3) ((k : Int) + 1)
theorem MW.ot {u : CW} (hu : MW p wS u τ f F ps rs ro ru M) (k pl : Nat) (t : Int) : Fr (MT M) u (otW u M k pl t) ∧ MW p wS (otW u M k pl t) τ f F ps rs ro ru M := by
  have fr : Fr (MT M) u (otW u M k pl t) := (((Fr.refl _ _).sqR (Or.inl (mem_MT.mpr (by omega)))).sqI (Or.inl (mem_MT.mpr (by omega)))).spI (Or.inl (mem_MT.mpr (by omega)))
  have h := hu.2.2.2.2.1.1.1
  exact ⟨fr, hu.st fr (((hu.2.2.2.1.sqR _ _ _).sqI _ _ _).spI _ _ _ (Or.inl (by decide))) (fun q hq => (mem_MT.mp hq).1) (fun g => rfl) (fun g => rfl)⟩
theorem KN.ot {u : CW} {π : Pa} {b : Br} {t : Int} (hu : MW p wS u τ f F ps rs ro ru M) (h : KN p u τ f F M ps P O) (hp : π ∈ ps) (hb : lkp P π = some b) (h1 : b.2.2.2 = 1) (hl : O.length < 120) : KN p (otW u M O.length (plo wS F ps π) t) τ f F M ps P (O ++ [(π, t)]) := by
  obtain ⟨-, m'⟩ := hu.ot O.length (plo wS F ps π) t
  obtain ⟨v, hv⟩ : ∃ v, v = otW u M O.length (plo wS F ps π) t := ⟨_, rfl⟩
  rw [← hv] at m' ⊢
  obtain ⟨h2, ⟨h3, h4⟩, h5⟩ := h
  have ai : ∀ r, r ≠ M + 5 → ∀ k : Int, aI v r k = aI u r k := fun r hr k => by
    rw [hv]
    unfold otW
    rw [aI_pI, aI_qI, if_neg (fun q => hr q.1)]
    rfl
  have aR' : ∀ r, r ≠ M + 4 → ∀ k : Int, aR v r k = aR u r k := fun r hr k => by
    rw [hv]
    unfold otW
    rw [aR_pI, aR_qI, aR_qR, if_neg (fun q => hr q.1)]
  have a5 : ∀ k : Int, aI v (M + 5) k = if k = (O.length : Nat) then t else aI u (M + 5) k := fun k => by
    rw [hv]
    unfold otW
    rw [aI_pI, aI_qI]
    by_cases q : k = (O.length : Nat)
    · rw [if_pos ⟨rfl, q⟩, if_pos q]
    · rw [if_neg (fun z => q z.2), if_neg q]
      rfl
  have a4 : ∀ k : Int, aR v (M + 4) k = if k = (O.length : Nat) then plo wS F ps π else aR u (M + 4) k := fun k => by
    rw [hv]
    unfold otW
    rw [aR_pI, aR_qI, aR_qR]
    by_cases q : k = (O.length : Nat)
    · rw [if_pos ⟨rfl, q⟩, if_pos q]
    · rw [if_neg (fun z => q z.2), if_neg q]
  have f105 : fI v 105 (M + 3) = (O.length : Int) + 1 := by
    rw [hv]
    unfold otW
    rw [fI_pI, if_pos ⟨rfl, rfl⟩]
  refine ⟨fun i ρ hi => ?_, ⟨by rw [f105, List.length_append]; rfl, by rw [List.length_append]; show O.length + 1 ≤ 120; omega⟩, fun i y hi => ?_⟩
  · have := h2 i ρ hi
    unfold KN1 at this ⊢
    rw [ai (M + 9) (by omega), ai (M + 10) (by omega), ai (M + 6) (by omega), ai (M + 8) (by omega), aR' (M + 7) (by omega)]
    exact ⟨this.1, this.2.1, fun s b hb hn => by
      obtain ⟨k, k1, k2, k3⟩ := this.2.2.1 s b hb hn
      exact ⟨k, k1, k2, by rw [m'.kd, ← hu.kd]; exact k3⟩, this.2.2.2⟩
  · rcases get_app hi with ⟨i1, i2⟩ | ⟨i1, i2⟩
    · obtain ⟨c1, c2, c3, c4⟩ := h5 i y i2
      rw [a4, a5, if_neg (by omega), if_neg (by omega), m'.pl c1, ← hu.pl c1]
      exact ⟨c1, c2, c3, c4⟩
    · rw [i2, a4, a5, if_pos (by omega), if_pos (by omega), m'.pl hp]
      exact ⟨hp, rfl, rfl, b, hb, h1⟩
theorem sC_byText {lim : Int} {m A : Nat} {x : Nat × Nat} {e : Pa × Nat} (hI : MKP p wS τ f F ps rs ro ru M wy lim (d + 6) m) (h : NCX p wS w τ f F ps rs rows ro ru M wy lim m n A P O) (h1 : ndE τ rs P = some x) (h2 : chs τ wy P (rws τ rs P) (ask τ P x) = some e) (hs : tA τ 18 e.2 = srP τ f e.1) (h0 : lkp P e.1 = none) (he : e.1 ∈ ps) (s1 : srP τ f e.1 = 2) {Q : ZRes → CW → Prop} (hQ : NCQ p wS w τ f F ps rs ro ru M wy m n P O (fun r w' => Q (.inl (some (ar r))) w') (fun x w' => Q (.inr x) w')) : wpC p (d + 7) 145 [ar M, ai (n : Nat), ar (plo wS F ps e.1), ar A, ai (rows.length : Nat)] w Q := by
  obtain ⟨hMz, hMp, hMt⟩ := h.mm
  obtain ⟨hW, hK, hOl, hA, ⟨hR, hg, hrw, hPs⟩, ⟨h92, h93, hn, hm2⟩, hmu, hlim⟩ := id h
  have W := hW.2.2.2.1
  obtain ⟨π, hπ⟩ : ∃ π, π = e.1 := ⟨_, rfl⟩
  obtain ⟨pl, hpl⟩ : ∃ pl, pl = plo wS F ps e.1 := ⟨_, rfl⟩
  obtain ⟨L, hL⟩ : ∃ L, L = txs τ P rows π := ⟨_, rfl⟩
  have eb : brs τ P rows π (srP τ f π) = L.map (fun t => (0, 0, t, 0)) ++ [(0, 0, 0, 1)] := by unfold brs; rw [hπ, if_neg (by omega), if_neg (by omega), if_pos s1, hL, hπ]
  have ebl : (brs τ P rows π (srP τ f π)).length = L.length + 1 := by rw [eb, List.length_append, List.length_map]; rfl
  have ecl : (chd τ rs wy P).length = L.length + 1 := by
    rw [chd_some h1 h2, ← hrw, hs, ← hπ, List.length_map, ebl]
  have kid : ∀ (j : Nat) b (O' : List (Pa × Int)), (brs τ P rows π (srP τ f π))[j]? = some b → (∀ y, y ∈ O → y ∈ O') → (b.2.2.2 = 1 → ∀ t, t ∈ L → (π, t) ∈ O') → (chd τ rs wy P)[j]? = some (b, .inr (π, b) :: P) ∧ PSd τ f (.inr (π, b) :: P) ∧ RWS τ rs rows (.inr (π, b) :: P) O' ∧ (∀ x, x ∈ rows → x.1 ∉ gds (.inr (π, b) :: P)) ∧ fil (liv τ (.inr (π, b) :: P)) rows = rws τ rs (.inr (π, b) :: P) := fun j b O' hb g1 g2 => by
    rw [hL] at g2
    rw [hπ] at hb g2 ⊢
    exact h.kid h1 h2 hs h0 hb g1 (fun _ => g2)
  have bt : ∀ (j : Nat) t, L[j]? = some t → (brs τ P rows π (srP τ f π))[j]? = some (0, 0, t, 0) := fun j t ht => by
    rw [eb, List.getElem?_append_left (by rw [List.length_map]; exact (List.getElem?_eq_some_iff.mp ht).1), List.getElem?_map, ht]
    rfl
  have bo : (brs τ P rows π (srP τ f π))[L.length]? = some (0, 0, 0, 1) := by
    rw [eb, List.getElem?_append_right (by rw [List.length_map]; exact Nat.le_refl _), List.length_map, Nat.sub_self]
    rfl
  rw [← hπ] at he h0 s1
  -- the object
  obtain ⟨-, il, iat, -⟩ := hW.1.2.1.at he
  obtain ⟨i, hi⟩ : ∃ i, i = ps.idxOf π := ⟨_, rfl⟩
  rw [← hi] at il iat
  have plf : ∀ {u : CW}, MW p wS u τ f F ps rs ro ru M → tg u pl = 15 ∧ fI u 89 pl = i ∧ plo u F ps π = pl := fun hu => by
    obtain ⟨-, -, -, ⟨d1, -, d3, kk, jj, pp, -, -, -, -, -, -, d88⟩⟩ := hu.t.2.1.at he
    rw [hu.pl he, hπ, ← hpl] at d1 d3
    exact ⟨d1, by rw [d3, hi, hπ], by rw [hu.pl he, hπ, hpl]⟩
  obtain ⟨r, hr⟩ : ∃ r, r = cz w + 1 := ⟨_, rfl⟩
  rw [← hpl]
  refine wC_X18_byText (Nat.zero_le _) (bC_X18_byText_0 ⟨room_n (k := 4) hmu (by omega), fa ?_⟩)
  rw [← hr]
  obtain ⟨F1, W1, z1, z2, z3⟩ := nO_f W 24 4
  obtain ⟨u1, hu1⟩ : ∃ u1, u1 = nO w 24 4 := ⟨_, rfl⟩
  rw [← hu1] at F1 W1 z1 z2 z3 ⊢
  rw [← hr] at z1 z3
  have m1 : MW p wS u1 τ f F ps rs ro ru M := hW.sa F1 W1 (fun q hq => by cases hq)
  have k1 : KN p u1 τ f F M ps P O := hK.sa hW F1 m1 (fun q hq => by cases hq)
  have a1 : ARW u1 A rows ro := hA.fr (p := p) W F1 (fun q hq => by cases hq)
  obtain ⟨p1, p2, p3⟩ := plf m1
  have hmu1 : lim ≤ mu u1 ∧ lim ≤ 5 * mz u1 := by rw [F1.emu, F1.emz]; exact hmu
  refine ⟨m1.2.2.2.2.1.1.2.1, ?_⟩
  have cont : ∀ {R : ZRes → CW → Prop}, (∀ u4, MW p wS u4 τ f F ps rs ro ru M → KN p u4 τ f F M ps P O → ARW u4 A rows ro → Fr [M + 1, M + 2, M + 11] u1 u4 → cz u1 < cz u4 → zm u4 ≤ zm u1 + 45 → NUA u4 (cz u1 + 1) 103 L → L.length ≤ 40 → R (.inl (some (ar (cz u1 + 1)))) u4) → wpC p (d + 6) 146 [ar M, ar A, ai (rows.length : Nat), ar pl] u1 R := fun {R} hR' => by
    have := sC_texts (d := d + 1) m1 k1 hR a1 he s1 hmu1 (by omega) (Q := R) (fun u4 g1 g2 g3 g4 g5 g6 g7 g8 => hR' u4 g1 g2 g3 g4 g5 g6 (by rw [hL]; exact g7) (by rw [hL]; exact g8))
    rw [p3] at this
    exact this
  refine cont (fun u4 m4 k4 a4 F4 c4 z4 lv Ll => ?_)
  obtain ⟨av, hav⟩ : ∃ av, av = cz u1 + 1 := ⟨_, rfl⟩
  rw [← hav] at lv
  rw [← hav]
  have W4 := m4.2.2.2.1
  have t4 : tg u4 r = 24 := by rw [(F4.2.2.2.1 r (by omega)).1]; exact z3
  have hmu4 : lim ≤ mu u4 ∧ lim ≤ 5 * mz u4 := by rw [F4.emu, F4.emz]; exact hmu1
  have pr : p ≠ r := by omega
  have r0 : ¬ r = 0 := by omega
  have av4 : av ≤ cz u4 := W4.le (by rw [lv.1]; decide)
  refine wC_X28_init (Nat.zero_le _) (bC_X28_init_0 ⟨r0, sC_tinit (d := d + 3) (by omega) W4 (room_n (k := 0) hmu4 (by omega)) ⟨?_, fa ?_⟩⟩)
  · show hP 111 (tg (nA u4 113 0) r) = true
    rw [tg_nA, if_neg (by omega), t4]
    decide
  obtain ⟨K, hKe⟩ : ∃ K, K = L.length + 1 := ⟨_, rfl⟩
  obtain ⟨t1, t2, t3, t4', t5, ⟨t6, t6'⟩, t7, t8, t9⟩ := tsW_f (n := n) (pl := pl) (g := 111) (arr := av) (K := K) W4 (x := r) (by omega) pr (Or.inr (Or.inl rfl))
  obtain ⟨w0, hw0⟩ : ∃ w0, w0 = tsW u4 r n pl 111 av K := ⟨_, rfl⟩
  obtain ⟨NX, hNX⟩ : ∃ NX, NX = cz u4 + 2 := ⟨_, rfl⟩
  obtain ⟨q1, q2, q3, q4, q5, q6, q7, q8, q9⟩ := ndW_f (n := n) W4 (x := r) (by omega) pr
  obtain ⟨u6, hu6⟩ : ∃ u6, u6 = pR (pR (ndW u4 r n) 109 r pl) 111 r av := ⟨_, rfl⟩
  have f6 : Fr [r] u4 u6 := by rw [hu6]; exact (q1.spR (Or.inl (by simp))).spR (Or.inl (by simp))
  have c6 : cz u6 = cz u4 + 1 := by rw [hu6]; exact q7
  have zz6 : zm u6 = zm u4 + 5 := by rw [hu6]; exact q8
  have a6 : fR u6 111 r = av := by rw [hu6, fR_pR, if_pos ⟨rfl, rfl⟩]
  have t6r : tg u6 r = 24 := by rw [(f6.2.2.2.1 r (by omega)).1]; exact t4
  have tav : tg u6 av = 103 ∧ ln u6 av = L.length := by rw [(f6.2.2.2.1 av av4).1, (f6.2.2.2.1 av av4).2]; exact ⟨lv.1, lv.2.1⟩
  have e2 : pR (nA u6 113 K) 107 r (cz u6 + 1) = w0 := by rw [hw0, hu6]; rfl
  -- what is known of the place
  have kno : ∀ {u : CW}, MW p wS u τ f F ps rs ro ru M → (tg u M = 16 ∧ fR u 91 M = M + 3 ∧ tg u (M + 3) = 17) ∧ (fR u 98 (M + 3) = M + 6 ∧ tg u (M + 6) = 102 ∧ ln u (M + 6) = ps.length) ∧ (fR u 100 (M + 3) = M + 8 ∧ tg u (M + 8) = 103 ∧ ln u (M + 8) = ps.length) ∧ (fR u 103 (M + 3) = M + 4 ∧ tg u (M + 4) = 115 ∧ ln u (M + 4) = 120) ∧ (fR u 104 (M + 3) = M + 5 ∧ tg u (M + 5) = 103 ∧ ln u (M + 5) = 120) := fun hu => by
    obtain ⟨⟨-, c1, c2, -⟩, -, ⟨c3, g1, g2, c4, -, c5, -⟩, ⟨g3, g4, g5, g6⟩, ⟨c6, c7, -, -, c8, c9⟩, -⟩ := id hu.2.2.2.2.1
    exact ⟨⟨c1, c2, c3⟩, ⟨c4, c6, c7⟩, ⟨c5, c8, c9⟩, ⟨g1, g3, g4⟩, g2, g5, g6⟩
  show (hF 111 (tg (pR (pR (ndW u4 r n) 109 r pl) 111 r av) r) = true) ∧ _
  rw [← hu6, a6, tav.1, tav.2, t6r]
  refine ⟨by decide, ⟨by decide, by decide, Or.inl (by decide)⟩, fa ?_⟩
  rw [show w32 (((L.length : Nat) : Int) + 1) = (K : Nat) by rw [w32_s (by omega) (by omega)]; omega, Int.toNat_natCast]
  refine ⟨⟨⟨by omega, by omega⟩, room_n (k := K) (by rw [f6.emu, f6.emz]; exact hmu4) (by omega)⟩, fa ⟨?_, fa ?_⟩⟩
  · rw [tg_nA, if_neg (by omega), t6r]
    decide
  rw [e2]
  rw [← hw0, ← hNX] at t5
  rw [← hw0] at t1 t2 t3 t4' t6 t6' t7 t8 t9
  rw [← hNX] at t7 t8
  have F0 : Fr (MT M) w w0 := ((F1.mono (T' := MT M) (fun q hq => by cases hq)).trans' F4 (fun q hq => Or.inl (MT_1 hq))).trans' t1 (fun q hq => by rw [List.mem_singleton.mp hq]; right; omega)
  have m0 : MW p wS w0 τ f F ps rs ro ru M := m4.sa t1 t2 (fun q hq => by rw [List.mem_singleton.mp hq]; omega)
  have k0 : KN p w0 τ f F M ps P O := k4.sa m4 t1 m0 (fun q hq => by rw [List.mem_singleton.mp hq]; right; omega)
  have a0 : ARW w0 A rows ro := a4.fr (p := p) W4 t1 (fun q hq => by rw [List.mem_singleton.mp hq, t4]; decide)
  have oM : fI w0 92 M = fI w 92 M ∧ fI w0 93 M = fI w 93 M := by
    have o1 : ob u1 M = ob w M := F1.2.2.2.2 M (by omega) (by simp)
    have o2 : ob u4 M = ob u1 M := F4.2.2.2.2 M (by omega) (by simp)
    have o3 : ob w0 M = ob u4 M := t1.2.2.2.2 M (by omega) (fun q => by have := List.mem_singleton.mp q; omega)
    rw [ob.efI o3, ob.efI o2, ob.efI o1, ob.efI o3, ob.efI o2, ob.efI o1]
    exact ⟨rfl, rfl⟩
  have oav : ob w0 av = ob u4 av := t1.2.2.2.2 av av4 (fun q => by have := List.mem_singleton.mp q; omega)
  have lv0 : NUA w0 av 103 L := lv.ob oav
  have hB : NOB p wS w w0 τ f F ps rs ro M wy n P r NX K := by
    refine ⟨⟨F0, t2⟩, ⟨by omega, by omega, by rw [t3, t4]; decide, t4', t5⟩, ⟨t7.1, t7.2, by omega, by omega⟩, ⟨fun q => absurd q (by rw [h1]; simp), fun x' hx' => ?_⟩, by omega⟩
    rw [h1] at hx'
    rw [← Option.some.inj hx']
    refine ⟨fun q => absurd q (by rw [h2]; simp), fun e' he' => ?_⟩
    rw [h2] at he'
    rw [← Option.some.inj he', ← hπ]
    exact ⟨by rw [t6, hpl, hπ], fun q => by omega, fun q => by omega, fun _ => ⟨by rw [t3, t4], by rw [t6', ← hrw, ← hL]; exact lv0, by rw [t6']; omega⟩, fun q => by omega⟩
  have L0 := LSB.z (n := n) (m := m) (NX := NX) (cs := chd τ rs wy P) m0 a0 (by rw [oM.1]; exact h92) (by rw [oM.2]; exact h93) hn
  have lmu : lim ≤ mu w0 ∧ lim ≤ 5 * mz w0 := by rw [F0.emu, F0.emz]; exact hmu
  -- facts at every turn
  have nn : ∀ q, cz w < q → q ≠ NX → q ∉ NX :: MT M := fun q y1 y2 y3 => by
    rcases List.mem_cons.mp y3 with z | z
    · exact y2 z
    · have := mem_MT.mp z; omega
  have fact : ∀ (u : CW), Fr (NX :: MT M) w0 u → (fR u 107 r = NX ∧ tg u r = 24 ∧ fR u 111 r = av) ∧ (tg u NX = 113 ∧ ln u NX = K) ∧ NUA u av 103 L := fun u l5 => by
    have o := l5.2.2.2.2 r (by omega) (nn r (by omega) (by omega))
    have oa := l5.2.2.2.2 av (by omega) (nn av (by omega) (by omega))
    have tN := l5.2.2.2.1 NX (by omega)
    exact ⟨⟨by rw [ob.efR o]; exact t5, by rw [ob.etg o, t3]; exact t4, by rw [ob.efR o]; exact t6'⟩, ⟨by rw [tN.1]; exact t7.1, by rw [tN.2]; exact t7.2⟩, lv0.ob oa⟩
  have up : ∀ {u v : CW}, Fr (MT M) u v → Fr (NX :: MT M) u v := fun hf => hf.mono (fun q hq => Or.inl (List.mem_cons_of_mem _ hq))
  have m1' : 1 ≤ m := by omega
  have xq : ∀ (j : Nat) (x : Nat) (u' : CW), 120 < n + 1 + prs τ rs wy m (chd τ rs wy P) (j + 1) → MKX p (NX :: MT M) w0 u' (232 * (120 - (n : Int))) x → Q (.inr x) u' := fun j x u' hgt hx' => by
    refine hQ.2 x u' ?_ (mkx_up F0 (by omega) (by omega) hx')
    have := prs_le (τ := τ) (rs := rs) (wy := wy) (m := m) (cs := chd τ rs wy P) (j + 1)
    rw [tsz_s]
    omega
  -- the last child: any other text
  have last : ∀ u, LSB p wS w0 u τ f F ps rs rows ro ru M wy m n A NX (chd τ rs wy P) L.length → KNx p u τ f F M ps P O π → pC_X18_byText_103 p (wpC p (d + 6)) (fun v w => Q (.inl (some (ar v))) w) (fun x w => Q (.inr x) w) M pl A (rows.length : Nat) r (L.length : Nat) u := fun u hL' hx => by
    have l1 := hL'.1
    obtain ⟨⟨c1, c2, c3⟩, ⟨c4, c5, c6⟩, -⟩ := kno l1
    have h89u : hF 89 (tg u pl) = true := by rw [(plf l1).1]; decide
    have e89 := (plf l1).2.1
    obtain ⟨fq, mq⟩ := l1.qi (r := M + 6) (i : Nat) 0 (by omega)
    have kq := hx.qi l1 iat 0 (r := M + 6) (by omega)
    refine bC_X18_byText_103 ⟨by rw [c1]; decide, by rw [c2, c3]; decide, h89u, by rw [c2, c4, c6, e89]; exact ⟨c5, by omega, by omega⟩, fa ?_⟩
    rw [c2, c4, e89]
    obtain ⟨v, hv⟩ : ∃ v, v = qI u (M + 6) (i : Nat) 0 := ⟨_, rfl⟩
    have kv : KN p v τ f F M ps (.inr (π, (0, 0, 0, 1)) :: P) O := by
      rw [← hv] at kq
      refine KNx.dn kq h0 (fun k hk => ?_)
      rw [s1, idx_one hW.1.2.1.2.2.1 iat hk]
      refine ⟨fun q => by omega, fun _ => ?_, fun q => by omega, fun _ b hb hn => ?_, fun q => by omega, fun _ b hb => ?_⟩
      · rw [hv, aI_qI, if_pos ⟨rfl, rfl⟩]
        rfl
      · rw [← Option.some.inj hb] at hn
        cases hn
      · rw [← Option.some.inj hb]
        exact Or.inr rfl
    rw [← hv] at fq mq ⊢
    obtain ⟨⟨vc1, vc2, vc3⟩, -⟩ := kno mq
    have hOm : O.length + L.length ≤ n + prs τ rs wy m (chd τ rs wy P) L.length := by
      have := prs_ge (τ := τ) (rs := rs) (wy := wy) (cs := chd τ rs wy P) m1' L.length (by omega)
      omega
    have b5 := hL'.2.2.2.1
    refine ⟨by rw [vc1]; decide, by rw [vc2, vc3]; decide, fa ?_⟩
    rw [vc2, kv.2.1.1]
    refine bC_X18_byText_128 ?_
    intro J hJ
    have lk : lkp (.inr (π, (0, 0, 0, 1)) :: P) π = some (0, 0, 0, 1) := lkp_eq
    have inn : ∀ t j : Nat, t + j = L.length → ∀ u', Fr (MT M) u u' → MW p wS u' τ f F ps rs ro ru M → (cz u' = cz u ∧ zm u' = zm u ∧ fI u' 92 M = fI u 92 M ∧ fI u' 93 M = fI u 93 M) → KN p u' τ f F M ps (.inr (π, (0, 0, 0, 1)) :: P) (O ++ (L.take j).map (fun t => (π, t))) → J (j : Int) u' := by
      intro t
      induction t with
      | zero =>
        intro j hj u' fu' mu' su' ku'
        have ej : j = L.length := by omega
        rw [ej, List.take_of_length_le (Nat.le_refl _)] at ku'
        obtain ⟨⟨g1, g2, g3⟩, -⟩ := kno mu'
        obtain ⟨⟨g7, g8, g9⟩, ⟨g10, g11⟩, -⟩ := fact u' (hL'.2.2.2.2.1.trans (up fu'))
        obtain ⟨O', hO'⟩ : ∃ O', O' = O ++ L.map (fun t => (π, t)) := ⟨_, rfl⟩
        rw [← hO'] at ku'
        have lO' : O'.length = O.length + L.length := by rw [hO', List.length_append, List.length_map]
        obtain ⟨y1, y2, y3, y4, y5⟩ := kid L.length (0, 0, 0, 1) O' bo (fun y hy => by rw [hO']; exact List.mem_append_left _ hy) (fun _ t ht => by rw [hO']; exact List.mem_append_right _ (List.mem_map.mpr ⟨t, ht, rfl⟩))
        refine hJ _ _ (br1 (by omega) (bC_X18_byText_193 (call := wpC p (d + 6)) ⟨by rw [g8]; decide, g1, ?_⟩))
        rw [g7]
        refine mk_kid (n := n) (K := fun u27 => (hF 91 (tg u27 M) = true) ∧ (hP 105 (tg u27 (fR u27 91 M)) = true) ∧ ∀ u31 : CW, u31 = pI u27 105 (fR u27 91 M) (O.length : Nat) → Q (.inl (some (ar r))) u31) (X := fun x w' => Q (.inr x) w') hI hL' y1 fu' mu' su' ku' (by omega) y3 y4 y5 y2 ⟨by omega, t7.1, by rw [t7.2]; omega⟩ (by omega) hm2 lmu (by omega) (fun u2 hL2 hK2 => ?_) (fun x u' hgt hx' => xq L.length x u' hgt hx')
        obtain ⟨⟨e1, e2, e3⟩, -⟩ := kno hL2.1
        refine ⟨by rw [e1]; decide, by rw [e2, e3]; decide, fa ?_⟩
        rw [e2]
        have fF : Fr (MT M) u2 (pI u2 105 (M + 3) (O.length : Nat)) := (Fr.refl _ _).spI (Or.inl (mem_MT.mpr (by omega)))
        have mF : MW p wS (pI u2 105 (M + 3) (O.length : Nat)) τ f F ps rs ro ru M := hL2.1.st fF (hL2.1.2.2.2.1.spI _ _ _ (Or.inl (by decide))) (fun q hq => (mem_MT.mp hq).1) (fun g => rfl) (fun g => rfl)
        refine nd_fin h hQ hB (by rw [ecl]; exact hKe) (by rw [hKe]; exact hL2) fF mF ⟨rfl, ?_, ?_⟩ ?_
        · rw [fI_pI, if_neg (by omega)]
        · rw [fI_pI, if_neg (by omega)]
        · obtain ⟨x1, ⟨x2, x3⟩, x4⟩ := hK2
          refine ⟨fun k ρ hk => ?_, ⟨by rw [fI_pI, if_pos ⟨rfl, rfl⟩], by have := hK.2.1.2; omega⟩, fun k y hk => ?_⟩
          · have g := x1 k ρ hk
            by_cases q : ρ = π
            · rw [q] at g hk ⊢
              rw [lk, s1] at g
              rw [h0, s1]
              refine ⟨fun q => by omega, fun _ => ?_, fun q => by omega, fun _ b hb => (by cases hb), fun q => by omega, fun _ b hb => (by cases hb)⟩
              exact g.2.1 (by omega)
            · rw [lkp_ne q] at g
              exact g
          · have hk' : O'[k]? = some y := by rw [hO', List.getElem?_append_left (List.getElem?_eq_some_iff.mp hk).1]; exact hk
            obtain ⟨r1, r2, r3, -⟩ := x4 k y hk'
            exact ⟨r1, r2, r3, hK.o y (List.mem_of_getElem? hk)⟩
      | succ t ih =>
        intro j hj u' fu' mu' su' ku'
        obtain ⟨y, hy⟩ : ∃ y, L[j]? = some y := ⟨_, List.getElem?_eq_getElem (by omega)⟩
        obtain ⟨⟨g1, g2, g3⟩, -, -, ⟨d1, d2, d3⟩, ⟨d4, d5, d6⟩⟩ := kno mu'
        obtain ⟨⟨g7, g8, g9⟩, ⟨g10, g11⟩, g12⟩ := fact u' (hL'.2.2.2.2.1.trans (up fu'))
        have lOj : (O ++ (L.take j).map (fun t => (π, t))).length = O.length + j := by rw [List.length_append, List.length_map, List.length_take]; omega
        have e105 := ku'.2.1.1
        rw [lOj] at e105
        have plt : tg u' pl = 15 := (plf mu').1
        refine hJ _ _ (br0 (by omega) ⟨by rw [g1]; decide, by rw [g2, g3]; decide, by rw [g1]; decide, by rw [g2, g3]; decide, by rw [g2, d1, d2, d3, e105]; exact ⟨⟨by decide, by decide⟩, by omega, by omega⟩, Or.inr (by rw [g2, d1, d2, plt]; rfl), fa ?_⟩)
        rw [g2, d1, e105]
        obtain ⟨v1, hv1⟩ : ∃ v1, v1 = qR u' (M + 4) ((O.length + j : Nat) : Int) pl := ⟨_, rfl⟩
        have vf : (tg v1 = tg u' ∧ ln v1 = ln u' ∧ fR v1 = fR u' ∧ fI v1 = fI u' ∧ aI v1 = aI u') := by rw [hv1]; exact ⟨rfl, rfl, rfl, rfl, rfl⟩
        obtain ⟨vt, vl, vr, vi, va⟩ := vf
        have eaW : aW v1 av (j : Int) = y := by
          unfold aW
          rw [vt, va, if_pos g12.1]
          exact g12.2.2 j y hy
        rw [← hv1, vt, vl, vr, vi, g2, d4, e105, g9, eaW]
        refine ⟨by rw [g1]; decide, by rw [g3]; decide, by rw [g1]; decide, by rw [g3]; decide, by rw [g8]; decide, by rw [g12.1, g12.2.1]; exact ⟨rfl, by omega, by omega⟩, by rw [d5, d6]; exact ⟨rfl, by omega, by omega⟩, fa ?_⟩
        obtain ⟨v2, hv2⟩ : ∃ v2, v2 = qI v1 (M + 5) ((O.length + j : Nat) : Int) y := ⟨_, rfl⟩
        have vf2 : (tg v2 = tg u' ∧ fR v2 = fR u' ∧ fI v2 = fI u') := by rw [hv2, hv1]; exact ⟨rfl, rfl, rfl⟩
        obtain ⟨wt, wr, wi⟩ := vf2
        rw [← hv2, wt, wr, wi, g2, e105]
        refine ⟨by rw [g1]; decide, by rw [g3]; decide, by rw [g3]; decide, fa (fa ?_)⟩
        rw [show w32 (((O.length + j : Nat) : Int) + 1) = ((O.length + j : Nat) : Int) + 1 by rw [w32_s (by omega) (by omega)], show w32 ((j : Int) + 1) = ((j + 1 : Nat) : Int) by rw [w32_s (by omega) (by omega)]; omega]
        have eo : pI v2 105 (M + 3) (((O.length + j : Nat) : Int) + 1) = otW u' M (O ++ (L.take j).map (fun t => (π, t))).length (plo wS F ps π) y := by
          rw [lOj, hv2, hv1, hπ, ← hpl]
          rfl
        rw [eo]
        obtain ⟨fo, mo⟩ := mu'.ot (O ++ (L.take j).map (fun t => (π, t))).length (plo wS F ps π) y
        have ko := KN.ot (t := y) mu' ku' he lk rfl (by rw [lOj]; omega)
        refine ih (j + 1) (by omega) _ (fu'.trans fo) mo ⟨su'.1, su'.2.1, ?_, ?_⟩ ?_
        · rw [← su'.2.2.1]
          unfold otW
          rw [fI_pI, if_neg (by omega)]
          rfl
        · rw [← su'.2.2.2]
          unfold otW
          rw [fI_pI, if_neg (by omega)]
          rfl
        · rw [List.append_assoc] at ko
          have ts : (L.take (j + 1)).map (fun t => (π, t)) = (L.take j).map (fun t => (π, t)) ++ [(π, y)] := by
            rw [List.take_succ, hy, List.map_append]
            rfl
          rw [ts]
          exact ko
    have := inn L.length 0 (by omega) v fq mq (by rw [hv]; exact ⟨rfl, rfl, rfl, rfl⟩) (by simpa using kv)
    exact this
  refine bC_X18_byText_42 ?_
  intro I hI2
  have key : ∀ t j : Nat, t + j = L.length → ∀ u, LSB p wS w0 u τ f F ps rs rows ro ru M wy m n A NX (chd τ rs wy P) j → KNx p u τ f F M ps P O π → I (j : Int) u := by
    intro t
    induction t with
    | zero =>
      intro j hj u hL' hx
      refine hI2 _ _ (br1 (by omega) ?_)
      refine last u ?_ hx
      rw [show L.length = j by omega]
      exact hL'
    | succ t ih =>
      intro j hj u hL' hx
      obtain ⟨y, hy⟩ : ∃ y, L[j]? = some y := ⟨_, List.getElem?_eq_getElem (by omega)⟩
      have l1 := hL'.1
      obtain ⟨⟨c1, c2, c3⟩, ⟨c4, c5, c6⟩, ⟨d4, d5, d6⟩, -⟩ := kno l1
      obtain ⟨⟨c7, c8, c9⟩, ⟨c10, c11⟩, c12⟩ := fact u hL'.2.2.2.2.1
      have h89u : hF 89 (tg u pl) = true := by rw [(plf l1).1]; decide
      have e89 := (plf l1).2.1
      obtain ⟨y1, y2, y3, y4, y5⟩ := kid j (0, 0, y, 0) O (bt j y hy) (fun y hy => hy) (fun q => by cases q)
      obtain ⟨fq, mq⟩ := l1.qi (r := M + 6) (i : Nat) 1 (by omega)
      have kq := hx.qi l1 iat 1 (r := M + 6) (by omega)
      refine hI2 _ _ (br0 (by omega) ⟨by rw [c1]; decide, by rw [c2, c3]; decide, h89u, by rw [c2, c4, c6, e89]; exact ⟨c5, by omega, by omega⟩, fa ?_⟩)
      rw [c2, c4, e89]
      obtain ⟨v, hv⟩ : ∃ v, v = qI u (M + 6) (i : Nat) 1 := ⟨_, rfl⟩
      rw [← hv] at fq mq kq ⊢
      have vf : (tg v = tg u ∧ ln v = ln u ∧ fR v = fR u ∧ fI v = fI u) := by rw [hv]; exact ⟨rfl, rfl, rfl, rfl⟩
      obtain ⟨vt, vl, vr, vi⟩ := vf
      have eaW : aW v av (j : Int) = y := by
        unfold aW
        rw [vt, if_pos c12.1, hv, aI_qI, if_neg (fun q => by have := q.1; omega)]
        exact c12.2.2 j y hy
      rw [vt, vl, vr, vi, c2, d4, c9, e89, eaW]
      refine ⟨by rw [c1]; decide, by rw [c3]; decide, h89u, by rw [c8]; decide, by rw [c12.1, c12.2.1]; exact ⟨rfl, by omega, by omega⟩, by rw [d5, d6]; exact ⟨rfl, by omega, by omega⟩, fa ?_⟩
      obtain ⟨fq2, mq2⟩ := mq.qi (r := M + 8) (i : Nat) y (by omega)
      have kq2 := kq.qi mq iat y (r := M + 8) (by omega)
      obtain ⟨v2, hv2⟩ : ∃ v2, v2 = qI v (M + 8) (i : Nat) y := ⟨_, rfl⟩
      have kv := KNx.dn (b := (0, 0, y, 0)) kq2 h0 (fun k hk => by
        rw [s1, idx_one hW.1.2.1.2.2.1 iat hk]
        refine ⟨fun q => by omega, fun _ => ?_, fun q => by omega, fun _ b hb _ => ?_, fun q => by omega, fun _ b hb => ?_⟩
        · rw [aI_qI, if_neg (by omega), hv, aI_qI, if_pos ⟨rfl, rfl⟩]
          rfl
        · rw [← Option.some.inj hb, aI_qI, if_pos ⟨rfl, rfl⟩]
        · rw [← Option.some.inj hb]
          exact Or.inl rfl)
      rw [← hv2] at fq2 mq2 kv ⊢
      rw [show fR v2 107 r = NX from by rw [hv2]; show fR v 107 r = NX; rw [vr]; exact c7, show tg v2 r = 24 from by rw [hv2]; show tg v r = 24; rw [vt]; exact c8, show tg v2 M = 16 from by rw [hv2]; show tg v M = 16; rw [vt]; exact c1]
      refine ⟨by decide, rfl, ?_⟩
      refine mk_kid (n := n) (K := fun u23 => ∀ x6_26 : Int, x6_26 = w32 ((j : Int) + 1) → I x6_26 u23) (X := fun x w' => Q (.inr x) w') hI hL' y1 (fq.trans fq2) mq2 (by rw [hv2, hv]; exact ⟨rfl, rfl, rfl, rfl⟩) kv (by omega) y3 y4 y5 y2 ⟨by omega, t7.1, by rw [t7.2]; omega⟩ (by omega) hm2 lmu (by omega) (fun u2 hL2 hK2 => fa (by
        rw [w32_s (by omega) (by omega)]
        have := ih (j + 1) (by omega) u2 hL2 (hK2.dx hK.o)
        exact this)) (fun x u' hgt hx' => xq j x u' hgt hx')
  exact key L.length 0 (by omega) w0 L0 k0.x
end ZTextt
