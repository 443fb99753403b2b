/-! the component's trees: a test of kinds -/
section ZKindt
variable {p b e d f F M n wy : Nat} {wS w : CW} {τ : TW} {rs rows : List (Nat × Nat)} {ps : List Pa} {P : Sp} {O : List (Pa × Int)} {ro : Nat × Nat → Nat} {ru : Nat → Nat}
/-- an object with a row of its own -/
def tsW (u : CW) (x n pl g arr K : Nat) : CW := pR (nA (pR (pR (ndW u x n) 109 x pl) g x arr) 113 K) 107 x (cz u + 2)
theorem tsW_f {x pl g arr K : Nat} (W : WF p w) (hx : x ≤ cz w) (hp : p ≠ x) (hg : g = 110 ∨ g = 111 ∨ g = 112) : Fr [x] w (tsW w x n pl g arr K) ∧ WF p (tsW w x n pl g arr K) ∧ tg (tsW w x n pl g arr K) x = tg w x ∧ fI (tsW w x n pl g arr K) 106 x = n ∧ fR (tsW w x n pl g arr K) 107 x = cz w + 2 ∧ (fR (tsW w x n pl g arr K) 109 x = pl ∧ fR (tsW w x n pl g arr K) g x = arr) ∧ (tg (tsW w x n pl g arr K) (cz w + 2) = 113 ∧ ln (tsW w x n pl g arr K) (cz w + 2) = K) ∧ cz (tsW w x n pl g arr K) = cz w + 2 ∧ zm (tsW w x n pl g arr K) = zm w + K + 10 := by
  obtain ⟨a1, a2, a3, a4, a5, ⟨a6, a7⟩, a8, a9, a10⟩ := ndW_f (n := n) W hx hp
  obtain ⟨v, hv⟩ : ∃ v, v = ndW w x n := ⟨_, rfl⟩
  unfold tsW
  rw [← hv] at a1 a2 a3 a4 a5 a6 a7 a8 a9 a10 ⊢
  refine ⟨?_, ?_, ?_, ?_, ?_, ⟨?_, ?_⟩, ⟨?_, ?_⟩, ?_, ?_⟩
  · exact ((((a1.spR (Or.inl (by simp)))).spR (Or.inl (by simp))).snA).spR (Or.inl (by simp))
  · exact (((a2.spR _ _ _).spR _ _ _).snA _ _).spR _ _ _
  · show tg (nA (pR (pR v 109 x pl) g x arr) 113 K) x = tg w x
    rw [tg_nA, if_neg (by show ¬ x = cz v + 1; omega)]
    exact a3
  · exact a4
  · rw [fR_pR, if_pos ⟨rfl, rfl⟩]
  · rw [fR_pR, if_neg (by omega), fR_nA, fR_pR, if_neg (by omega), fR_pR, if_pos ⟨rfl, rfl⟩]
  · rw [fR_pR, if_neg (by omega), fR_nA, fR_pR, if_pos ⟨rfl, rfl⟩]
  · show tg (nA (pR (pR v 109 x pl) g x arr) 113 K) (cz w + 2) = 113
    rw [tg_nA, if_pos (by show cz w + 2 = cz v + 1; omega)]
  · show ln (nA (pR (pR v 109 x pl) g x arr) 113 K) (cz w + 2) = K
    rw [ln_nA, if_pos (by show cz w + 2 = cz v + 1; omega)]
  · show cz v + 1 = cz w + 2
    omega
  · show ((cu v + K : Nat) : Int) + 5 * ((cz v + 1 : Nat) : Int) = _
    unfold zm at a9 ⊢
    omega
/-- an object is new -/
theorem nO_f (W : WF p w) (t k : Nat) : Fr [] w (nO w t k) ∧ WF p (nO w t k) ∧ cz (nO w t k) = cz w + 1 ∧ zm (nO w t k) = zm w + k + 5 ∧ tg (nO w t k) (cz w + 1) = t := by
  refine ⟨(Fr.refl _ _).snO, W.snO _ _, rfl, ?_, by rw [tg_nO, if_pos rfl]⟩
  show ((cu w + k : Nat) : Int) + 5 * ((cz w + 1 : Nat) : Int) = ((cu w : Nat) : Int) + 5 * ((cz w : Nat) : Int) + k + 5
  omega
theorem sC_byKind {lim : Int} {m A : Nat} {x : Nat × Nat} {e : Pa × Nat} (hI : MKP p wS τ f F ps rs ro ru M wy lim (d + 6) m) (h : NCX p wS w τ f F ps rs rows ro ru M wy lim m n A P O) (h1 : ndE τ rs P = some x) (h2 : chs τ wy P (rws τ rs P) (ask τ P x) = some e) (hs : tA τ 18 e.2 = srP τ f e.1) (h0 : lkp P e.1 = none) (he : e.1 ∈ ps) (s1 : 3 ≤ srP τ f e.1 ∧ srP τ f e.1 < 3 + nK τ) {Q : ZRes → CW → Prop} (hQ : NCQ p wS w τ f F ps rs ro ru M wy m n P O (fun r w' => Q (.inl (some (ar r))) w') (fun x w' => Q (.inr x) w')) : wpC p (d + 7) 142 [ar M, ai (n : Nat), ar (plo wS F ps e.1), ar A, ai (rows.length : Nat)] w Q := by
  obtain ⟨hMz, hMp, hMt⟩ := h.mm
  obtain ⟨hW, hK, hOl, hA, ⟨hR, hg, hrw, hPs⟩, ⟨h92, h93, hn, hm2⟩, hmu, hlim⟩ := id h
  have W := hW.2.2.2.1
  obtain ⟨π, hπ⟩ : ∃ π, π = e.1 := ⟨_, rfl⟩
  obtain ⟨pl, hpl⟩ : ∃ pl, pl = plo wS F ps e.1 := ⟨_, rfl⟩
  obtain ⟨o, ho⟩ : ∃ o : Nat, srP τ f e.1 = 3 + (o : Int) := ⟨(srP τ f e.1 - 3).toNat, by omega⟩
  obtain ⟨L, hL⟩ : ∃ L, L = lvs τ (o : Nat) := ⟨_, rfl⟩
  have Ll : L.length ≤ 24 := by rw [hL]; exact Nat.le_trans (lvK_len (τ := τ) (o : Nat) (nK τ)) hW.1.2.2.1.1.2.2.1
  have Lr : ∀ k, k ∈ L → k < nK τ := fun k hk => by
    rw [hL] at hk
    exact List.mem_range.mp (mem_fil.mp hk).1
  have eb : brs τ P rows π (srP τ f π) = (-4, 0, 0, 0) :: L.map (fun (k : Nat) => (((k : Nat) : Int), 0, 0, 0)) := by unfold brs; rw [hπ, if_pos (by omega), hL, ho, show 3 + (o : Int) - 3 = (o : Nat) by omega]
  have ecl : (chd τ rs wy P).length = L.length + 1 := by
    rw [chd_some h1 h2, ← hrw, hs, ← hπ, eb]
    simp
  have kid : ∀ (j : Nat) b, (brs τ P rows π (srP τ f π))[j]? = some b → (chd τ rs wy P)[j]? = some (b, .inr (π, b) :: P) ∧ PSd τ f (.inr (π, b) :: P) ∧ RWS τ rs rows (.inr (π, b) :: P) O ∧ (∀ x, x ∈ rows → x.1 ∉ gds (.inr (π, b) :: P)) ∧ fil (liv τ (.inr (π, b) :: P)) rows = rws τ rs (.inr (π, b) :: P) := fun j b hb => by
    rw [hπ] at hb ⊢
    exact h.kid h1 h2 hs h0 hb (fun y hy => hy) (fun q => by omega)
  rw [← hπ] at he h0 s1
  have ho' : srP τ f π = 3 + (o : Int) := by rw [hπ]; exact ho
  -- the object
  obtain ⟨-, il, iat, -⟩ := hW.1.2.1.at he
  obtain ⟨i, hi⟩ : ∃ i, i = ps.idxOf π := ⟨_, rfl⟩
  rw [← hi] at il iat
  have plf : ∀ {u : CW}, MW p wS u τ f F ps rs ro ru M → tg u pl = 15 ∧ fI u 89 pl = i ∧ fI u 88 pl = 3 + (o : Int) := fun hu => by
    obtain ⟨-, -, -, ⟨d1, -, d3, kk, jj, pp, -, -, -, -, -, -, d88⟩⟩ := hu.t.2.1.at he
    rw [hu.pl he, hπ, ← hpl] at d1 d3 d88
    exact ⟨d1, by rw [d3, hi, hπ], by rw [d88, ho]⟩
  obtain ⟨r, hr⟩ : ∃ r, r = cz w + 1 := ⟨_, rfl⟩
  rw [← hpl]
  refine wC_X18_byKind (Nat.zero_le _) (bC_X18_byKind_0 ⟨room_n (k := 4) hmu (by omega), fa ?_⟩)
  rw [← hr]
  obtain ⟨F1, W1, z1, z2, z3⟩ := nO_f W 22 4
  obtain ⟨u1, hu1⟩ : ∃ u1, u1 = nO w 22 4 := ⟨_, rfl⟩
  rw [← hu1] at F1 W1 z1 z2 z3 ⊢
  rw [← hr] at z1 z3
  have m1 : MW p wS u1 τ f F ps rs ro ru M := hW.sa F1 W1 (fun q hq => by cases hq)
  obtain ⟨p1, p2, p3⟩ := plf m1
  have hmu1 : lim ≤ mu u1 ∧ lim ≤ 5 * mz u1 := by rw [F1.emu, F1.emz]; exact hmu
  refine ⟨by rw [p1]; decide, m1.2.2.2.2.1.1.2.1, ?_⟩
  rw [p3]
  refine sC_leaves (d := d + 3) m1 (by omega) hmu1 (by omega) (fun u4 F4 m4 c4 z4 lv => ?_)
  obtain ⟨av, hav⟩ : ∃ av, av = cz u1 + 1 := ⟨_, rfl⟩
  rw [← hav, ← hL] at lv
  rw [← hav]
  have W4 := m4.2.2.2.1
  have t4 : tg u4 r = 22 := by rw [(F4.2.2.2.1 r (by omega)).1]; exact z3
  have hmu4 : lim ≤ mu u4 ∧ lim ≤ 5 * mz u4 := by rw [F4.emu, F4.emz]; exact hmu1
  have pr : p ≠ r := by omega
  have r0 : ¬ r = 0 := by omega
  have av4 : av ≤ cz u4 := W4.le (by rw [lv.1]; decide)
  refine wC_X26_init (Nat.zero_le _) (bC_X26_init_0 ⟨r0, sC_tinit (d := d + 3) (by omega) W4 (room_n (k := 0) hmu4 (by omega)) ⟨?_, fa ?_⟩⟩)
  · show hP 110 (tg (nA u4 113 0) r) = true
    rw [tg_nA, if_neg (by omega), t4]
    decide
  obtain ⟨K, hKe⟩ : ∃ K, K = L.length + 1 := ⟨_, rfl⟩
  obtain ⟨t1, t2, t3, t4', t5, ⟨t6, t6'⟩, t7, t8, t9⟩ := tsW_f (n := n) (pl := pl) (g := 110) (arr := av) (K := K) W4 (x := r) (by omega) pr (Or.inl rfl)
  obtain ⟨w0, hw0⟩ : ∃ w0, w0 = tsW u4 r n pl 110 av K := ⟨_, rfl⟩
  obtain ⟨NX, hNX⟩ : ∃ NX, NX = cz u4 + 2 := ⟨_, rfl⟩
  obtain ⟨q1, q2, q3, q4, q5, q6, q7, q8, q9⟩ := ndW_f (n := n) W4 (x := r) (by omega) pr
  obtain ⟨u6, hu6⟩ : ∃ u6, u6 = pR (pR (ndW u4 r n) 109 r pl) 110 r av := ⟨_, rfl⟩
  have f6 : Fr [r] u4 u6 := by rw [hu6]; exact (q1.spR (Or.inl (by simp))).spR (Or.inl (by simp))
  have c6 : cz u6 = cz u4 + 1 := by rw [hu6]; exact q7
  have zz6 : zm u6 = zm u4 + 5 := by rw [hu6]; exact q8
  have a6 : fR u6 110 r = av := by rw [hu6, fR_pR, if_pos ⟨rfl, rfl⟩]
  have t6r : tg u6 r = 22 := by rw [(f6.2.2.2.1 r (by omega)).1]; exact t4
  have tav : tg u6 av = 112 ∧ ln u6 av = L.length := by rw [(f6.2.2.2.1 av av4).1, (f6.2.2.2.1 av av4).2]; exact ⟨lv.1, lv.2.1⟩
  have e2 : pR (nA u6 113 K) 107 r (cz u6 + 1) = w0 := by rw [hw0, hu6]; rfl
  show (hF 110 (tg (pR (pR (ndW u4 r n) 109 r pl) 110 r av) r) = true) ∧ _
  rw [← hu6, a6, tav.1, tav.2, t6r, show w32 (((L.length : Nat) : Int) + 1) = (K : Nat) by rw [w32_s (by omega) (by omega)]; omega, Int.toNat_natCast]
  refine ⟨by decide, ⟨by decide, by decide, Or.inr (by decide)⟩, ⟨⟨by omega, by omega⟩, room_n (k := K) (by rw [f6.emu, f6.emz]; exact hmu4) (by omega)⟩, fa ⟨?_, fa ?_⟩⟩
  · rw [tg_nA, if_neg (by omega), t6r]
    decide
  rw [e2]
  rw [← hw0, ← hNX] at t5
  rw [← hw0] at t1 t2 t3 t4' t6 t6' t7 t8 t9
  rw [← hNX] at t7 t8
  have F0 : Fr [] w w0 := (F1.trans' F4 (fun q hq => by cases hq)).trans' t1 (fun q hq => by rw [List.mem_singleton.mp hq]; right; omega)
  have m0 : MW p wS w0 τ f F ps rs ro ru M := hW.sa F0 t2 (fun q hq => by cases hq)
  have k0 : KN p w0 τ f F M ps P O := hK.sa hW F0 m0 (fun q hq => by cases hq)
  have a0 : ARW w0 A rows ro := hA.fr (p := p) W F0 (fun q hq => by cases hq)
  have oM : ob w0 M = ob w M := F0.2.2.2.2 M (by omega) (by simp)
  have oav : ob w0 av = ob u4 av := t1.2.2.2.2 av av4 (fun q => by have := List.mem_singleton.mp q; omega)
  have lv0 : LVA p wS w0 av L := lv.ob oav
  have hB : NOB p wS w w0 τ f F ps rs ro M wy n P r NX K := by
    refine ⟨⟨F0.mono (fun q hq => by cases hq), t2⟩, ⟨by omega, by omega, by rw [t3, t4]; decide, t4', t5⟩, ⟨t7.1, t7.2, by omega, by omega⟩, ⟨fun q => absurd q (by rw [h1]; simp), fun x' hx' => ?_⟩, by omega⟩
    rw [h1] at hx'
    rw [← Option.some.inj hx']
    refine ⟨fun q => absurd q (by rw [h2]; simp), fun e' he' => ?_⟩
    rw [h2] at he'
    rw [← Option.some.inj he', ← hπ]
    exact ⟨by rw [t6, hpl, hπ], fun _ => ⟨by rw [t3, t4], by rw [t6', hπ, ho, show 3 + (o : Int) - 3 = (o : Nat) by omega, ← hL]; exact lv0, by rw [t6']; omega⟩, fun q => by omega, fun q => by omega, fun q => by omega⟩
  have L0 := LSB.z (n := n) (m := m) (NX := NX) (cs := chd τ rs wy P) m0 a0 (by rw [ob.efI oM]; exact h92) (by rw [ob.efI oM]; exact h93) hn
  have lmu : lim ≤ mu w0 ∧ lim ≤ 5 * mz w0 := by rw [F0.emu, F0.emz]; exact hmu
  have h89 : hF 89 (tg w0 pl) = true := by rw [(plf m0).1]; decide
  refine ⟨h89, fa ?_⟩
  rw [(plf m0).2.1]
  -- facts at every turn
  have fact : ∀ (u : CW) (j : Nat), LSB p wS w0 u τ f F ps rs rows ro ru M wy m n A NX (chd τ rs wy P) j → (tg u M = 16 ∧ fR u 91 M = M + 3 ∧ tg u (M + 3) = 17) ∧ (fR u 98 (M + 3) = M + 6 ∧ tg u (M + 6) = 102 ∧ ln u (M + 6) = ps.length) ∧ (fR u 99 (M + 3) = M + 7 ∧ tg u (M + 7) = 112 ∧ ln u (M + 7) = ps.length) ∧ (fR u 107 r = NX ∧ tg u r = 22 ∧ fR u 110 r = av) ∧ (tg u NX = 113 ∧ ln u NX = K) ∧ LVA p wS u av L := fun u j hL => by
    obtain ⟨l1, -, -, -, l5, -⟩ := hL
    obtain ⟨⟨-, c1, c2, -⟩, -, ⟨c3, -, -, c4, c5, -⟩, -, ⟨c6, c7, c8, c9, -⟩, -⟩ := id l1.2.2.2.2.1
    have nn : ∀ q, cz w < q → q ≠ NX → q ∉ NX :: MT M := fun q y1 y2 y3 => by
      rcases List.mem_cons.mp y3 with z | z
      · exact y2 z
      · have := mem_MT.mp z; omega
    have o := l5.2.2.2.2 r (by omega) (nn r (by omega) (by omega))
    have oa := l5.2.2.2.2 av (by omega) (nn av (by omega) (by omega))
    have tN := l5.2.2.2.1 NX (by omega)
    exact ⟨⟨c1, c2, c3⟩, ⟨c4, c6, c7⟩, ⟨c5, c8, c9⟩, ⟨by rw [ob.efR o]; exact t5, by rw [ob.etg o, t3]; exact t4, by rw [ob.efR o]; exact t6'⟩, ⟨by rw [tN.1]; exact t7.1, by rw [tN.2]; exact t7.2⟩, lv0.ob oa⟩
  refine bC_X18_byKind_44 ?_
  intro I hI2
  have key : ∀ t j : Nat, t + j = K → ∀ u, LSB p wS w0 u τ f F ps rs rows ro ru M wy m n A NX (chd τ rs wy P) j → KNx p u τ f F M ps P O π → I (j : Int) u := by
    intro t
    induction t with
    | zero =>
      intro j hj u hL' hx
      obtain ⟨⟨c1, c2, c3⟩, ⟨c4, c5, c6⟩, -, ⟨c7, c8, c9⟩, ⟨c10, c11⟩, -⟩ := fact u j hL'
      have l1 := hL'.1
      refine hI2 _ _ ⟨by rw [c8]; decide, by rw [c7, c10]; exact ⟨by decide, by decide, Or.inr (by decide)⟩, br1 (by rw [c7, c11]; omega) (bC_X18_byKind_125 (call := wpC p (d + 6)) ⟨by rw [c1]; decide, by rw [c2, c3]; decide, by rw [c2, c4, c6]; exact ⟨c5, by omega, by omega⟩, fa ?_⟩)⟩
      rw [c2, c4]
      obtain ⟨fq, mq⟩ := l1.qi (r := M + 6) (i : Nat) 0 (by omega)
      refine nd_fin h hQ hB (by rw [ecl]; exact hKe) (by rw [show K = j by omega]; exact hL') fq mq ⟨rfl, rfl, rfl⟩ (KNx.up (hx.qi l1 iat 0 (by omega)) (fun k hk => ?_))
      rw [h0, idx_one hW.1.2.1.2.2.1 iat hk]
      refine ⟨fun q => by omega, fun _ => ?_, fun _ b hb => (by cases hb), fun q => by omega, fun q => by omega, fun q => by omega⟩
      rw [aI_qI, if_pos ⟨rfl, rfl⟩]
      rfl
    | succ t ih =>
      intro j hj u hL' hx
      obtain ⟨⟨c1, c2, c3⟩, ⟨c4, c5, c6⟩, ⟨d4, d5, d6⟩, ⟨c7, c8, c9⟩, ⟨c10, c11⟩, c12⟩ := fact u j hL'
      have l1 := hL'.1
      obtain ⟨b, hb⟩ : ∃ b, (brs τ P rows π (srP τ f π))[j]? = some b := by rw [eb]; exact ⟨_, List.getElem?_eq_getElem (by rw [List.length_cons, List.length_map]; omega)⟩
      have hb1 : (j = 0 → b.1 = -4) ∧ ∀ j', j = j' + 1 → ∃ k : Nat, L[j']? = some k ∧ b.1 = k := by
        rw [eb] at hb
        refine ⟨fun q => ?_, fun j' q => ?_⟩
        · rw [q] at hb; rw [← Option.some.inj hb]
        · rw [q, List.getElem?_cons_succ, List.getElem?_map] at hb
          cases hh : L[j']? with
          | none => rw [hh] at hb; cases hb
          | some k =>
            rw [hh] at hb
            exact ⟨k, rfl, by rw [← Option.some.inj hb]⟩
      obtain ⟨y1, y2, y3, y4, y5⟩ := kid j b hb
      -- the leaf's object
      obtain ⟨kk, hkk⟩ : ∃ kk : Nat, kk = (if (j : Int) = 0 then 0 else aR u av (w32 ((j : Int) - 1))) := ⟨_, rfl⟩
      have kk0 : ∀ j', j = j' + 1 → ∃ k : Nat, L[j']? = some k ∧ b.1 = k ∧ k < nK τ ∧ kk = kd wS p k := fun j' q => by
        obtain ⟨k, g1, g2⟩ := hb1.2 j' q
        refine ⟨k, g1, g2, Lr k (List.mem_of_getElem? g1), ?_⟩
        rw [hkk, if_neg (by omega), show w32 ((j : Int) - 1) = (j' : Nat) by rw [w32_s (by omega) (by omega)]; omega]
        exact c12.2.2 j' k g1
      have kkz : kk = 0 ∨ zst 112 (tg u kk) = true := by
        rcases (by omega : j = 0 ∨ j = (j - 1) + 1) with q | q
        · left; rw [hkk, if_pos (by omega)]
        · right
          obtain ⟨k, -, -, g3, g4⟩ := kk0 _ q
          rw [g4, ← l1.kd, (l1.t.1.2.1.2.2.2.2.1 k g3).1]
          rfl
      refine hI2 _ _ ⟨by rw [c8]; decide, by rw [c7, c10]; exact ⟨by decide, by decide, Or.inr (by decide)⟩, br0 (by rw [c7, c11]; omega) ⟨by rw [c1]; decide, by rw [c2, c3]; decide, fa ⟨by rw [c2, c4, c6]; exact ⟨c5, by omega, by omega⟩, fa ?_⟩⟩⟩
      rw [c2, c4]
      obtain ⟨st, hst⟩ : ∃ st : Int, st = (if (j : Int) = 0 then 1 else 2) := ⟨_, rfl⟩
      rw [← hst]
      obtain ⟨fq, mq⟩ := l1.qi (r := M + 6) (i : Nat) st (by omega)
      have kq := hx.qi l1 iat st (r := M + 6) (by omega)
      obtain ⟨v, hv⟩ : ∃ v, v = qI u (M + 6) (i : Nat) st := ⟨_, rfl⟩
      rw [← hv] at fq mq kq ⊢
      have vf : (tg v = tg u ∧ ln v = ln u ∧ fR v = fR u ∧ aR v = aR u) := by rw [hv]; exact ⟨rfl, rfl, rfl, rfl⟩
      obtain ⟨vt, vl, vr, va⟩ := vf
      rw [vt, vl, vr, va, c2, d4, c9, c1, c3, c8]
      refine ⟨by decide, by decide, fun q => ⟨by decide, ?_⟩, fa ?_⟩
      · rw [c12.1, c12.2.1, w32_s (by omega) (by omega)]
        exact ⟨⟨by decide, by decide⟩, by omega, by omega⟩
      rw [← hkk, d5, d6]
      refine ⟨⟨⟨by decide, by decide⟩, by omega, by omega⟩, kkz, fa ?_⟩
      obtain ⟨fq2, mq2⟩ := mq.qr (r := M + 7) (i : Nat) kk (by omega)
      have kq2 := kq.qr mq iat kk (r := M + 7) (by omega)
      obtain ⟨v2, hv2⟩ : ∃ v2, v2 = qR v (M + 7) (i : Nat) kk := ⟨_, rfl⟩
      have kv := KNx.dn (b := b) kq2 h0 (fun k hk => by
        rw [idx_one hW.1.2.1.2.2.1 iat hk]
        refine ⟨fun q => by omega, fun _ => ?_, fun _ b' hb' hn' => ?_, fun q => by omega, fun q => by omega, fun q => by omega⟩
        · show aI v (M + 6) (i : Nat) = _
          rw [hv, aI_qI, if_pos ⟨rfl, rfl⟩, hst]
          show _ = (if 3 ≤ srP τ f π then (if b.1 = -4 then (1 : Int) else 2) else _)
          rw [if_pos s1.1]
          by_cases q : j = 0
          · rw [if_pos (by omega), if_pos (hb1.1 q)]
          · obtain ⟨k, -, g2⟩ := hb1.2 (j - 1) (by omega)
            rw [if_neg (by omega), if_neg (by omega)]
        · rw [← Option.some.inj hb'] at hn' ⊢
          have j0 : j ≠ 0 := fun q => hn' (hb1.1 q)
          obtain ⟨k, -, g2, g3, g4⟩ := kk0 (j - 1) (by omega)
          refine ⟨k, g2, g3, ?_⟩
          rw [aR_qR, if_pos ⟨rfl, rfl⟩]
          exact g4.trans (mq2.kd k).symm)
      rw [← hv2] at fq2 mq2 kv ⊢
      rw [show fR v2 107 r = NX from by rw [hv2]; show fR v 107 r = NX; rw [vr]; exact c7, show tg v2 r = 22 from by rw [hv2]; show tg v r = 22; rw [vt]; exact c8, show tg v2 M = 16 from by rw [hv2]; show tg v M = 16; rw [vt]; exact c1]
      refine ⟨by decide, rfl, ?_⟩
      refine mk_kid (n := n) (K := fun u23 => ∀ x6_26 : Int, x6_26 = w32 ((j : Int) + 1) → I x6_26 u23) (X := fun x w' => Q (.inr x) w') hI hL' y1 (fq.trans fq2) mq2 (by rw [hv2, hv]; exact ⟨rfl, rfl, rfl, rfl⟩) kv (by omega) y3 y4 y5 y2 ⟨by omega, t7.1, by rw [t7.2]; omega⟩ (by omega) hm2 lmu (by omega) (fun u2 hL2 hK2 => fa (by
        rw [w32_s (by omega) (by omega)]
        have := ih (j + 1) (by omega) u2 hL2 (hK2.dx hK.o)
        exact this)) (fun x u' hgt hx' => ?_)
      refine hQ.2 x u' ?_ (mkx_up (F0.mono (fun q hq => by cases hq)) (by omega) (by omega) hx')
      have := prs_le (τ := τ) (rs := rs) (wy := wy) (m := m) (cs := chd τ rs wy P) (j + 1)
      rw [tsz_s]
      omega
  exact key K 0 rfl w0 L0 k0.x
end ZKindt
