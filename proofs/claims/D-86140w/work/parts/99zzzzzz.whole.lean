/-! the component's trees: a test of a whole -/
section ZWholet
variable {p b e d f F M n wy : Nat} {wS w : CW} {τ : TW} {rs rows : List (Nat × Nat)} {ps : List Pa} {P : Sp} {O : List (Pa × Int)} {ro : Nat × Nat → Nat} {ru : Nat → Nat}
theorem MT_1 {q : Nat} (h : q ∈ [M + 1, M + 2, M + 11]) : q ∈ MT M := by
  rw [mem_MT]
  simp at h
  omega
theorem sC_byWhole {lim : Int} {m A : Nat} {x : Nat × Nat} {e : Pa × Nat} (hI : MKP p wS τ f F ps rs ro ru M wy lim (d + 6) m) (h : NCX p wS w τ f F ps rs rows ro ru M wy lim m n A P O) (h1 : ndE τ rs P = some x) (h2 : chs τ wy P (rws τ rs P) (ask τ P x) = some e) (hs : tA τ 18 e.2 = srP τ f e.1) (h0 : lkp P e.1 = none) (he : e.1 ∈ ps) (s1 : srP τ f e.1 = 0) {Q : ZRes → CW → Prop} (hQ : NCQ p wS w τ f F ps rs ro ru M wy m n P O (fun r w' => Q (.inl (some (ar r))) w') (fun x w' => Q (.inr x) w')) : wpC p (d + 7) 147 [ar M, ai (n : Nat), ar (plo wS F ps e.1), ar A, ai (rows.length : Nat)] w Q := by
  obtain ⟨hMz, hMp, hMt⟩ := h.mm
  obtain ⟨hW, hK, hOl, hA, ⟨hR, hg, hrw, hPs⟩, ⟨h92, h93, hn, hm2⟩, hmu, hlim⟩ := id h
  have W := hW.2.2.2.1
  obtain ⟨π, hπ⟩ : ∃ π, π = e.1 := ⟨_, rfl⟩
  obtain ⟨pl, hpl⟩ : ∃ pl, pl = plo wS F ps e.1 := ⟨_, rfl⟩
  obtain ⟨L, hL⟩ : ∃ L, L = bos τ P rows π := ⟨_, rfl⟩
  have rng : ∀ v, v ∈ L → -1000000000 ≤ v ∧ v ≤ 999999999 := by
    rw [hL, hπ]
    exact bos_rng (hW.1.2.2.1.who (P := P) s1 (rows := rows) (fun y hy => (hR.2 y hy).1))
  have eb : brs τ P rows π (srP τ f π) = rgs (-2147483648) L := by unfold brs; rw [hπ, if_neg (by omega), if_neg (by omega), if_neg (by omega), hL, hπ]
  have ecl : (chd τ rs wy P).length = L.length + 1 := by
    rw [chd_some h1 h2, ← hrw, hs, ← hπ, eb, List.length_map, rgs_len]
  have kid : ∀ (j : Nat) b, (brs τ P rows π (srP τ f π))[j]? = some b → (chd τ rs wy P)[j]? = some (b, .inr (π, b) :: P) ∧ PSd τ f (.inr (π, b) :: P) ∧ RWS τ rs rows (.inr (π, b) :: P) O ∧ (∀ x, x ∈ rows → x.1 ∉ gds (.inr (π, b) :: P)) ∧ fil (liv τ (.inr (π, b) :: P)) rows = rws τ rs (.inr (π, b) :: P) := fun j b hb => by
    rw [hπ] at hb ⊢
    exact h.kid h1 h2 hs h0 hb (fun y hy => hy) (fun q => by omega)
  rw [← hπ] at he h0 s1
  -- the object
  obtain ⟨-, il, iat, -⟩ := hW.1.2.1.at he
  obtain ⟨i, hi⟩ : ∃ i, i = ps.idxOf π := ⟨_, rfl⟩
  rw [← hi] at il iat
  have plf : ∀ {u : CW}, MW p wS u τ f F ps rs ro ru M → tg u pl = 15 ∧ fI u 89 pl = i ∧ plo u F ps π = pl := fun hu => by
    obtain ⟨-, -, -, ⟨d1, -, d3, kk, jj, pp, -, -, -, -, -, -, d88⟩⟩ := hu.t.2.1.at he
    rw [hu.pl he, hπ, ← hpl] at d1 d3
    exact ⟨d1, by rw [d3, hi, hπ], by rw [hu.pl he, hπ, hpl]⟩
  obtain ⟨r, hr⟩ : ∃ r, r = cz w + 1 := ⟨_, rfl⟩
  rw [← hpl]
  refine wC_X18_byWhole (Nat.zero_le _) (bC_X18_byWhole_0 ⟨room_n (k := 4) hmu (by omega), fa ?_⟩)
  rw [← hr]
  obtain ⟨F1, W1, z1, z2, z3⟩ := nO_f W 25 4
  obtain ⟨u1, hu1⟩ : ∃ u1, u1 = nO w 25 4 := ⟨_, rfl⟩
  rw [← hu1] at F1 W1 z1 z2 z3 ⊢
  rw [← hr] at z1 z3
  have m1 : MW p wS u1 τ f F ps rs ro ru M := hW.sa F1 W1 (fun q hq => by cases hq)
  have k1 : KN p u1 τ f F M ps P O := hK.sa hW F1 m1 (fun q hq => by cases hq)
  have a1 : ARW u1 A rows ro := hA.fr (p := p) W F1 (fun q hq => by cases hq)
  obtain ⟨p1, p2, p3⟩ := plf m1
  have hmu1 : lim ≤ mu u1 ∧ lim ≤ 5 * mz u1 := by rw [F1.emu, F1.emz]; exact hmu
  refine ⟨m1.2.2.2.2.1.1.2.1, ?_⟩
  have cont : ∀ {R : ZRes → CW → Prop}, (∀ u4, MW p wS u4 τ f F ps rs ro ru M → KN p u4 τ f F M ps P O → ARW u4 A rows ro → Fr [M + 1, M + 2, M + 11] u1 u4 → cz u1 < cz u4 → zm u4 ≤ zm u1 + 86 → NUA u4 (cz u1 + 1) 102 (L ++ [2147483647]) → L.length ≤ 80 → R (.inl (some (ar (cz u1 + 1)))) u4) → wpC p (d + 6) 148 [ar M, ar A, ai (rows.length : Nat), ar pl] u1 R := fun {R} hR' => by
    have := sC_borders (d := d + 1) m1 k1 hR a1 he s1 h0 hmu1 (by omega) (Q := R) (fun u4 g1 g2 g3 g4 g5 g6 g7 g8 => hR' u4 g1 g2 g3 g4 g5 g6 (by rw [hL]; exact g7) (by rw [hL]; exact g8))
    rw [p3] at this
    exact this
  refine cont (fun u4 m4 k4 a4 F4 c4 z4 lv Ll => ?_)
  obtain ⟨av, hav⟩ : ∃ av, av = cz u1 + 1 := ⟨_, rfl⟩
  rw [← hav] at lv
  rw [← hav]
  have W4 := m4.2.2.2.1
  have t4 : tg u4 r = 25 := by rw [(F4.2.2.2.1 r (by omega)).1]; exact z3
  have hmu4 : lim ≤ mu u4 ∧ lim ≤ 5 * mz u4 := by rw [F4.emu, F4.emz]; exact hmu1
  have pr : p ≠ r := by omega
  have r0 : ¬ r = 0 := by omega
  have av4 : av ≤ cz u4 := W4.le (by rw [lv.1]; decide)
  refine wC_X29_init (Nat.zero_le _) (bC_X29_init_0 ⟨r0, sC_tinit (d := d + 3) (by omega) W4 (room_n (k := 0) hmu4 (by omega)) ⟨?_, fa ?_⟩⟩)
  · show hP 112 (tg (nA u4 113 0) r) = true
    rw [tg_nA, if_neg (by omega), t4]
    decide
  obtain ⟨K, hKe⟩ : ∃ K, K = L.length + 1 := ⟨_, rfl⟩
  have eLK : (L ++ [(2147483647 : Int)]).length = K := by rw [List.length_append, hKe]; rfl
  obtain ⟨t1, t2, t3, t4', t5, ⟨t6, t6'⟩, t7, t8, t9⟩ := tsW_f (n := n) (pl := pl) (g := 112) (arr := av) (K := K) W4 (x := r) (by omega) pr (Or.inr (Or.inr rfl))
  obtain ⟨w0, hw0⟩ : ∃ w0, w0 = tsW u4 r n pl 112 av K := ⟨_, rfl⟩
  obtain ⟨NX, hNX⟩ : ∃ NX, NX = cz u4 + 2 := ⟨_, rfl⟩
  obtain ⟨q1, q2, q3, q4, q5, q6, q7, q8, q9⟩ := ndW_f (n := n) W4 (x := r) (by omega) pr
  obtain ⟨u6, hu6⟩ : ∃ u6, u6 = pR (pR (ndW u4 r n) 109 r pl) 112 r av := ⟨_, rfl⟩
  have f6 : Fr [r] u4 u6 := by rw [hu6]; exact (q1.spR (Or.inl (by simp))).spR (Or.inl (by simp))
  have W6 : WF p u6 := by rw [hu6]; exact (q2.spR _ _ _).spR _ _ _
  have m6 : MW p wS u6 τ f F ps rs ro ru M := m4.sa f6 W6 (fun q hq => by rw [List.mem_singleton.mp hq]; omega)
  have k6 : KN p u6 τ f F M ps P O := k4.sa m4 f6 m6 (fun q hq => by rw [List.mem_singleton.mp hq]; right; omega)
  have c6 : cz u6 = cz u4 + 1 := by rw [hu6]; exact q7
  have zz6 : zm u6 = zm u4 + 5 := by rw [hu6]; exact q8
  have a6 : fR u6 112 r = av := by rw [hu6, fR_pR, if_pos ⟨rfl, rfl⟩]
  have t6r : tg u6 r = 25 := by rw [(f6.2.2.2.1 r (by omega)).1]; exact t4
  have tav : tg u6 av = 102 ∧ ln u6 av = K := by rw [(f6.2.2.2.1 av av4).1, (f6.2.2.2.1 av av4).2]; exact ⟨lv.1, by rw [lv.2.1]; exact eLK⟩
  have e2 : pR (nA u6 113 K) 107 r (cz u6 + 1) = w0 := by rw [hw0, hu6]; rfl
  -- what is known of the place
  have kno : ∀ {u : CW}, MW p wS u τ f F ps rs ro ru M → (tg u M = 16 ∧ fR u 91 M = M + 3 ∧ tg u (M + 3) = 17) ∧ (fR u 101 (M + 3) = M + 9 ∧ tg u (M + 9) = 102 ∧ ln u (M + 9) = ps.length) ∧ (fR u 102 (M + 3) = M + 10 ∧ tg u (M + 10) = 102 ∧ ln u (M + 10) = ps.length) := fun hu => by
    obtain ⟨⟨-, c1, c2, -⟩, -, ⟨c3, -, -, -, -, -, c4, c5⟩, -, -, ⟨c6, c7, c8, c9, -⟩⟩ := id hu.2.2.2.2.1
    exact ⟨⟨c1, c2, c3⟩, ⟨c4, c6, c7⟩, ⟨c5, c8, c9⟩⟩
  obtain ⟨⟨v1, v2, v3⟩, ⟨v4, v5, v6⟩, ⟨v7, v8, v9⟩⟩ := kno m6
  obtain ⟨⟨klo, khi⟩, -⟩ := (k6.1 i π iat).imp (fun k => k s1) id
  rw [h0] at klo khi
  have h89 : hF 89 (tg u6 pl) = true := by rw [(plf m6).1]; decide
  show (hF 91 (tg (pR (pR (ndW u4 r n) 109 r pl) 112 r av) M) = true) ∧ _
  rw [← hu6, v1, v2, v3, v4, v5, v6, v7, v8, v9, (plf m6).2.1]
  refine ⟨by decide, by decide, h89, ⟨rfl, by omega, by omega⟩, fa ⟨by decide, by decide, h89, ⟨rfl, by omega, by omega⟩, fa ?_⟩⟩
  rw [show aN u6 (M + 9) (i : Int) = -2147483648 from by unfold aN; rw [if_neg (by rw [v5]; decide)]; exact klo, show aN u6 (M + 10) (i : Int) = 2147483647 from by unfold aN; rw [if_neg (by rw [v8]; decide)]; exact khi]
  rw [a6, tav.1, tav.2, t6r, Int.toNat_natCast]
  refine ⟨by decide, ⟨by decide, by decide, Or.inl (by decide)⟩, ⟨⟨by omega, by omega⟩, room_n (k := K) (by rw [f6.emu, f6.emz]; exact hmu4) (by omega)⟩, fa ⟨?_, fa ?_⟩⟩
  · rw [tg_nA, if_neg (by omega), t6r]
    decide
  rw [e2]
  rw [← hw0, ← hNX] at t5
  rw [← hw0] at t1 t2 t3 t4' t6 t6' t7 t8 t9
  rw [← hNX] at t7 t8
  have F0 : Fr (MT M) w w0 := ((F1.mono (T' := MT M) (fun q hq => by cases hq)).trans' F4 (fun q hq => Or.inl (MT_1 hq))).trans' t1 (fun q hq => by rw [List.mem_singleton.mp hq]; right; omega)
  have m0 : MW p wS w0 τ f F ps rs ro ru M := m4.sa t1 t2 (fun q hq => by rw [List.mem_singleton.mp hq]; omega)
  have k0 : KN p w0 τ f F M ps P O := k4.sa m4 t1 m0 (fun q hq => by rw [List.mem_singleton.mp hq]; right; omega)
  have a0 : ARW w0 A rows ro := a4.fr (p := p) W4 t1 (fun q hq => by rw [List.mem_singleton.mp hq, t4]; decide)
  have oM : fI w0 92 M = fI w 92 M ∧ fI w0 93 M = fI w 93 M := by
    have o1 : ob u1 M = ob w M := F1.2.2.2.2 M (by omega) (by simp)
    have o2 : ob u4 M = ob u1 M := F4.2.2.2.2 M (by omega) (by simp)
    have o3 : ob w0 M = ob u4 M := t1.2.2.2.2 M (by omega) (fun q => by have := List.mem_singleton.mp q; omega)
    rw [ob.efI o3, ob.efI o2, ob.efI o1, ob.efI o3, ob.efI o2, ob.efI o1]
    exact ⟨rfl, rfl⟩
  have oav : ob w0 av = ob u4 av := t1.2.2.2.2 av av4 (fun q => by have := List.mem_singleton.mp q; omega)
  have lv0 : NUA w0 av 102 (L ++ [2147483647]) := lv.ob oav
  have hB : NOB p wS w w0 τ f F ps rs ro M wy n P r NX K := by
    refine ⟨⟨F0, t2⟩, ⟨by omega, by omega, by rw [t3, t4]; decide, t4', t5⟩, ⟨t7.1, t7.2, by omega, by omega⟩, ⟨fun q => absurd q (by rw [h1]; simp), fun x' hx' => ?_⟩, by omega⟩
    rw [h1] at hx'
    rw [← Option.some.inj hx']
    refine ⟨fun q => absurd q (by rw [h2]; simp), fun e' he' => ?_⟩
    rw [h2] at he'
    rw [← Option.some.inj he', ← hπ]
    exact ⟨by rw [t6, hpl, hπ], fun q => by omega, fun q => by omega, fun q => by omega, fun _ => ⟨by rw [t3, t4], by rw [t6', ← hrw, ← hL]; exact lv0, by rw [t6']; omega⟩⟩
  have L0 := LSB.z (n := n) (m := m) (NX := NX) (cs := chd τ rs wy P) m0 a0 (by rw [oM.1]; exact h92) (by rw [oM.2]; exact h93) hn
  have lmu : lim ≤ mu w0 ∧ lim ≤ 5 * mz w0 := by rw [F0.emu, F0.emz]; exact hmu
  -- facts at every turn
  have fact : ∀ (u : CW) (j : Nat), LSB p wS w0 u τ f F ps rs rows ro ru M wy m n A NX (chd τ rs wy P) j → (fR u 107 r = NX ∧ tg u r = 25 ∧ fR u 112 r = av) ∧ (tg u NX = 113 ∧ ln u NX = K) ∧ NUA u av 102 (L ++ [2147483647]) := fun u j hL => by
    obtain ⟨l1, -, -, -, l5, -⟩ := hL
    have nn : ∀ q, cz w < q → q ≠ NX → q ∉ NX :: MT M := fun q y1 y2 y3 => by
      rcases List.mem_cons.mp y3 with z | z
      · exact y2 z
      · have := mem_MT.mp z; omega
    have o := l5.2.2.2.2 r (by omega) (nn r (by omega) (by omega))
    have oa := l5.2.2.2.2 av (by omega) (nn av (by omega) (by omega))
    have tN := l5.2.2.2.1 NX (by omega)
    exact ⟨⟨by rw [ob.efR o]; exact t5, by rw [ob.etg o, t3]; exact t4, by rw [ob.efR o]; exact t6'⟩, ⟨by rw [tN.1]; exact t7.1, by rw [tN.2]; exact t7.2⟩, lv0.ob oa⟩
  refine bC_X18_byWhole_64 ?_
  intro I hI2
  have key : ∀ t j : Nat, t + j = K → ∀ u, LSB p wS w0 u τ f F ps rs rows ro ru M wy m n A NX (chd τ rs wy P) j → KNx p u τ f F M ps P O π → I (j : Int) u := by
    intro t
    induction t with
    | zero =>
      intro j hj u hL' hx
      obtain ⟨⟨c7, c8, c9⟩, ⟨c10, c11⟩, -⟩ := fact u j hL'
      have l1 := hL'.1
      obtain ⟨⟨c1, c2, c3⟩, ⟨c4, c5, c6⟩, ⟨d4, d5, d6⟩⟩ := kno l1
      have h89u : hF 89 (tg u pl) = true := by rw [(plf l1).1]; decide
      have e89 := (plf l1).2.1
      obtain ⟨fq, mq⟩ := l1.qi (r := M + 9) (i : Nat) (-2147483648) (by omega)
      have kq := hx.qi l1 iat (-2147483648) (r := M + 9) (by omega)
      refine hI2 _ _ ⟨by rw [c8]; decide, by rw [c7, c10]; exact ⟨by decide, by decide, Or.inr (by decide)⟩, br1 (by rw [c7, c11]; omega) (bC_X18_byWhole_150 (call := wpC p (d + 6)) ⟨by rw [c1]; decide, by rw [c2, c3]; decide, h89u, by rw [c2, c4, c6, e89]; exact ⟨c5, by omega, by omega⟩, fa ?_⟩)⟩
      rw [c2, c4, e89]
      obtain ⟨v, hv⟩ : ∃ v, v = qI u (M + 9) (i : Nat) (-2147483648) := ⟨_, rfl⟩
      rw [← hv] at fq mq kq ⊢
      obtain ⟨⟨vc1, vc2, vc3⟩, -, ⟨ve4, ve5, ve6⟩⟩ := kno mq
      have h89v : hF 89 (tg v pl) = true := by rw [(plf mq).1]; decide
      refine ⟨by rw [vc1]; decide, by rw [vc2, vc3]; decide, h89v, by rw [vc2, ve4, ve6, (plf mq).2.1]; exact ⟨ve5, by omega, by omega⟩, fa ?_⟩
      rw [vc2, ve4, (plf mq).2.1]
      obtain ⟨fq2, mq2⟩ := mq.qi (r := M + 10) (i : Nat) 2147483647 (by omega)
      have kq2 := kq.qi mq iat 2147483647 (r := M + 10) (by omega)
      refine nd_fin h hQ hB (by rw [ecl]; exact hKe) (by rw [show K = j by omega]; exact hL') (fq.trans fq2) mq2 (by rw [hv]; exact ⟨rfl, rfl, rfl⟩) (KNx.up kq2 (fun k hk => ?_))
      rw [h0, s1, idx_one hW.1.2.1.2.2.1 iat hk]
      refine ⟨fun _ => ⟨?_, ?_⟩, fun q => absurd rfl q, fun q => by omega, fun q => by omega, fun q => by omega, fun q => by omega⟩
      · rw [aI_qI, if_neg (by omega), hv, aI_qI, if_pos ⟨rfl, rfl⟩]
        rfl
      · rw [aI_qI, if_pos ⟨rfl, rfl⟩]
        rfl
    | succ t ih =>
      intro j hj u hL' hx
      obtain ⟨⟨c7, c8, c9⟩, ⟨c10, c11⟩, c12⟩ := fact u j hL'
      have l1 := hL'.1
      obtain ⟨⟨c1, c2, c3⟩, ⟨c4, c5, c6⟩, ⟨d4, d5, d6⟩⟩ := kno l1
      have h89u : hF 89 (tg u pl) = true := by rw [(plf l1).1]; decide
      have e89 := (plf l1).2.1
      obtain ⟨b, hb⟩ : ∃ b, (brs τ P rows π (srP τ f π))[j]? = some b := by rw [eb]; exact ⟨_, List.getElem?_eq_getElem (by rw [rgs_len]; omega)⟩
      obtain ⟨⟨ch, g1, g2⟩, g3, g4, g5⟩ := rgs_get L (-2147483648) j b (by rw [← eb]; exact hb)
      obtain ⟨y1, y2, y3, y4, y5⟩ := kid j b hb
      have aNv : ∀ (k : Nat) y, (L ++ [2147483647])[k]? = some y → aN u av (k : Int) = y := fun k y hk => by
        unfold aN
        rw [if_neg (by rw [c12.1]; decide)]
        exact c12.2.2 k y hk
      obtain ⟨lo, hlo⟩ : ∃ lo : Int, lo = (if (j : Int) = 0 then (-2147483648) else w32 ((aN u av (w32 ((j : Int) - 1))) + 1)) := ⟨_, rfl⟩
      have lob : lo = b.1 := by
        rw [hlo]
        by_cases q : j = 0
        · rw [if_pos (by omega), g3 q]
        · obtain ⟨c, k1, k2⟩ := g4 (j - 1) (by omega)
          have := rng c (List.mem_of_getElem? k1)
          rw [if_neg (by omega), show w32 ((j : Int) - 1) = ((j - 1 : Nat) : Int) by rw [w32_s (by omega) (by omega)]; omega, aNv (j - 1) c (by rw [List.getElem?_append_left (List.getElem?_eq_some_iff.mp k1).1]; exact k1), w32_s (by omega) (by omega), k2]
      have avr : tg u av = 102 ∧ ln u av = K := ⟨c12.1, by rw [c12.2.1]; exact eLK⟩
      refine hI2 _ _ ⟨by rw [c8]; decide, by rw [c7, c10]; exact ⟨by decide, by decide, Or.inr (by decide)⟩, br0 (by rw [c7, c11]; omega) ⟨by rw [c1]; decide, by rw [c2, c3]; decide, h89u, fun q => ⟨by rw [c8]; decide, by rw [c9, avr.1, avr.2, w32_s (by omega) (by omega)]; exact ⟨rfl, by omega, by omega⟩⟩, fa ⟨by rw [c2, c4, c6, e89]; exact ⟨c5, by omega, by omega⟩, fa ?_⟩⟩⟩
      rw [c9, ← hlo, c2, c4, e89]
      obtain ⟨fq, mq⟩ := l1.qi (r := M + 9) (i : Nat) lo (by omega)
      have kq := hx.qi l1 iat lo (r := M + 9) (by omega)
      obtain ⟨v, hv⟩ : ∃ v, v = qI u (M + 9) (i : Nat) lo := ⟨_, rfl⟩
      have vav : aN v av = aN u av := by
        rw [hv]
        funext k
        unfold aN
        show (if tg u av = 103 then 0 else aI (qI u (M + 9) (i : Nat) lo) av k) = _
        rw [aI_qI, if_neg (show ¬ (av = M + 9 ∧ k = (i : Nat)) from fun q => by have := q.1; omega)]
      rw [← hv] at fq mq kq ⊢
      have vf : (tg v = tg u ∧ ln v = ln u ∧ fR v = fR u ∧ fI v = fI u) := by rw [hv]; exact ⟨rfl, rfl, rfl, rfl⟩
      obtain ⟨vt, vl, vr, vi⟩ := vf
      rw [vt, vl, vr, vi, c2, d4, c9, c1, c3, c8, e89, vav, aNv j ch g1]
      refine ⟨by decide, by decide, h89u, by decide, by rw [avr.1, avr.2]; exact ⟨rfl, by omega, by omega⟩, by rw [d5, d6]; exact ⟨rfl, by omega, by omega⟩, fa ?_⟩
      obtain ⟨fq2, mq2⟩ := mq.qi (r := M + 10) (i : Nat) ch (by omega)
      have kq2 := kq.qi mq iat ch (r := M + 10) (by omega)
      obtain ⟨v2, hv2⟩ : ∃ v2, v2 = qI v (M + 10) (i : Nat) ch := ⟨_, rfl⟩
      have kv := KNx.dn (b := b) kq2 h0 (fun k hk => by
        rw [idx_one hW.1.2.1.2.2.1 iat hk]
        refine ⟨fun _ => ⟨?_, ?_⟩, fun q => absurd s1 q, fun q => by omega, fun q => by omega, fun q => by omega, fun q => by omega⟩
        · rw [aI_qI, if_neg (by omega), hv, aI_qI, if_pos ⟨rfl, rfl⟩, lob]
          rfl
        · rw [aI_qI, if_pos ⟨rfl, rfl⟩, ← g2]
          rfl)
      rw [← hv2] at fq2 mq2 kv ⊢
      rw [show fR v2 107 r = NX from by rw [hv2]; show fR v 107 r = NX; rw [vr]; exact c7, show tg v2 r = 25 from by rw [hv2]; show tg v r = 25; rw [vt]; exact c8, show tg v2 M = 16 from by rw [hv2]; show tg v M = 16; rw [vt]; exact c1]
      refine ⟨by decide, rfl, ?_⟩
      refine mk_kid (n := n) (K := fun u23 => ∀ x6_26 : Int, x6_26 = w32 ((j : Int) + 1) → I x6_26 u23) (X := fun x w' => Q (.inr x) w') hI hL' y1 (fq.trans fq2) mq2 (by rw [hv2, hv]; exact ⟨rfl, rfl, rfl, rfl⟩) kv (by omega) y3 y4 y5 y2 ⟨by omega, t7.1, by rw [t7.2]; omega⟩ (by omega) hm2 lmu (by omega) (fun u2 hL2 hK2 => fa (by
        rw [w32_s (by omega) (by omega)]
        have := ih (j + 1) (by omega) u2 hL2 (hK2.dx hK.o)
        exact this)) (fun x u' hgt hx' => ?_)
      refine hQ.2 x u' ?_ (mkx_up F0 (by omega) (by omega) hx')
      have := prs_le (τ := τ) (rs := rs) (wy := wy) (m := m) (cs := chd τ rs wy P) (j + 1)
      rw [tsz_s]
      omega
  exact key K 0 rfl w0 L0 k0.x
end ZWholet
