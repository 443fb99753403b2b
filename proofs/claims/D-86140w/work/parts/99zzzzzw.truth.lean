/-! the component's trees: a node's end; a test of a truth -/
section ZTruth
variable {p b e d f F M n wy : Nat} {wS w : CW} {τ : TW} {rs rows : List (Nat × Nat)} {ps : List Pa} {P : Sp} {O : List (Pa × Int)} {ro : Nat × Nat → Nat} {ru : Nat → Nat}
theorem MW.qi {u : CW} (hu : MW p wS u τ f F ps rs ro ru M) {r : Nat} (i x : Int) (hr : M < r ∧ r ≤ M + 11 ∧ r ≠ M + 3) : Fr (MT M) u (qI u r i x) ∧ MW p wS (qI u r i x) τ f F ps rs ro ru M := by
  have fr : Fr [r] u (qI u r i x) := (Fr.refl _ _).sqI (Or.inl (by simp))
  exact ⟨fr.mono (fun q hq => Or.inl (by rw [List.mem_singleton.mp hq]; exact mem_MT.mpr (by omega))), hu.sa fr (hu.2.2.2.1.sqI _ _ _) (fun q hq => by rw [List.mem_singleton.mp hq]; omega)⟩
theorem MW.qr {u : CW} (hu : MW p wS u τ f F ps rs ro ru M) {r : Nat} (i : Int) (x : Nat) (hr : M < r ∧ r ≤ M + 11 ∧ r ≠ M + 3) : Fr (MT M) u (qR u r i x) ∧ MW p wS (qR u r i x) τ f F ps rs ro ru M := by
  have fr : Fr [r] u (qR u r i x) := (Fr.refl _ _).sqR (Or.inl (by simp))
  exact ⟨fr.mono (fun q hq => Or.inl (by rw [List.mem_singleton.mp hq]; exact mem_MT.mpr (by omega))), hu.sa fr (hu.2.2.2.1.sqR _ _ _) (fun q hq => by rw [List.mem_singleton.mp hq]; omega)⟩
theorem KNx.qi {u : CW} {π : Pa} {i r : Nat} (h : KNx p u τ f F M ps P O π) (hu : MW p wS u τ f F ps rs ro ru M) (hi : ps[i]? = some π) (x : Int) (hr : M + 6 ≤ r ∧ r ≤ M + 10) : KNx p (qI u r (i : Nat) x) τ f F M ps P O π := by
  have m' := (hu.qi (r := r) (i : Nat) x (by omega)).2
  refine h.eq hi hu.1.2.1.2.2.1 ⟨fun k => rfl, fun k => ?_⟩ (fun q h1 h2 k hk => ⟨?_, rfl⟩) rfl (fun ρ hρ => (m'.pl hρ).trans (hu.pl hρ).symm) (fun k => (m'.kd k).trans (hu.kd k).symm)
  · rw [aI_qI, if_neg (by omega)]
  · rw [aI_qI, if_neg (by omega)]
theorem KNx.qr {u : CW} {π : Pa} {i r : Nat} (h : KNx p u τ f F M ps P O π) (hu : MW p wS u τ f F ps rs ro ru M) (hi : ps[i]? = some π) (x : Nat) (hr : M + 6 ≤ r ∧ r ≤ M + 10) : KNx p (qR u r (i : Nat) x) τ f F M ps P O π := by
  have m' := (hu.qr (r := r) (i : Nat) x (by omega)).2
  refine h.eq hi hu.1.2.1.2.2.1 ⟨fun k => ?_, fun k => rfl⟩ (fun q h1 h2 k hk => ⟨rfl, ?_⟩) rfl (fun ρ hρ => (m'.pl hρ).trans (hu.pl hρ).symm) (fun k => (m'.kd k).trans (hu.kd k).symm)
  · rw [aR_qR, if_neg (by omega)]
  · rw [aR_qR, if_neg (by omega)]
/-- a node's object stands before its children -/
def NOB (p : Nat) (wS w w0 : CW) (τ : TW) (f F : Nat) (ps : List Pa) (rs : List (Nat × Nat)) (ro : Nat × Nat → Nat) (M wy n : Nat) (P : Sp) (r NX K : Nat) : Prop := (Fr (MT M) w w0 ∧ WF p w0) ∧ (cz w < r ∧ r ≤ cz w0 ∧ (19 ≤ tg w0 r ∧ tg w0 r ≤ 25) ∧ fI w0 106 r = n ∧ fR w0 107 r = NX) ∧ (tg w0 NX = 113 ∧ ln w0 NX = K ∧ cz w < NX ∧ NX ≤ cz w0) ∧ NDC p wS w0 τ f F ps rs ro wy (cz w) P r ∧ zm w0 ≤ zm w + 187
theorem LSB.z {w0 : CW} {m A NX : Nat} {cs : List (Br × Sp)} (m0 : MW p wS w0 τ f F ps rs ro ru M) (a0 : ARW w0 A rows ro) (h92 : fI w0 92 M = wy) (h93 : fI w0 93 M = (n + 1 : Nat)) (hn : n ≤ 119) : LSB p wS w0 w0 τ f F ps rs rows ro ru M wy m n A NX cs 0 := by
  refine ⟨m0, a0, ⟨h92, by rw [prs_0]; exact h93⟩, by rw [prs_0]; omega, Fr.refl _ _, by rw [prs_0]; omega, fun i y hi => by omega⟩
/-- a node's end -/
theorem nd_fin {w0 u uF : CW} {m A r NX K : Nat} {lim : Int} {Q X : Nat → CW → Prop} (h : NCX p wS w τ f F ps rs rows ro ru M wy lim m n A P O) (hQ : NCQ p wS w τ f F ps rs ro ru M wy m n P O Q X) (hB : NOB p wS w w0 τ f F ps rs ro M wy n P r NX K) (hK : K = (chd τ rs wy P).length) (hL : LSB p wS w0 u τ f F ps rs rows ro ru M wy m n A NX (chd τ rs wy P) K) (fF : Fr (MT M) u uF) (mF : MW p wS uF τ f F ps rs ro ru M) (sF : zm uF = zm u ∧ fI uF 92 M = fI u 92 M ∧ fI uF 93 M = fI u 93 M) (kF : KN p uF τ f F M ps P O) : Q r uF := by
  obtain ⟨⟨b1, bW⟩, ⟨b2, b3, b4, b5, b6⟩, ⟨b7, b8, b9, b10⟩, b11, b12⟩ := hB
  obtain ⟨l1, l2, ⟨l3, l4⟩, l5, l6, l7, l8⟩ := hL
  have h6 := h.1.2.2.2.2.2
  have hz := b1.1
  have es := tsz_s (τ := τ) (rs := rs) (wy := wy) (P := P) m
  have ea := prs_all (τ := τ) (rs := rs) (wy := wy) m (chd τ rs wy P)
  rw [← hK] at ea
  have FF : Fr (NX :: MT M) w0 uF := l6.trans (fF.mono (fun q hq => Or.inl (List.mem_cons_of_mem _ hq)))
  have rN : r ≠ NX := fun q => by rw [q, b7] at b4; omega
  have nt : ∀ q, cz w < q → q ≠ NX → q ∉ NX :: MT M := fun q h1 h2 h3 => by
    rcases List.mem_cons.mp h3 with z | z
    · exact h2 z
    · have := mem_MT.mp z; omega
  have oR := FF.2.2.2.2 r b3 (nt r b2 rN)
  have tN : tg uF NX = 113 ∧ ln uF NX = K := by rw [(FF.2.2.2.1 NX b10).1, (FF.2.2.2.1 NX b10).2]; exact ⟨b7, b8⟩
  refine hQ.1 r uF (by rw [es]; omega) mF kF ?_ ⟨by rw [sF.2.1]; exact l3, by rw [sF.2.2, l4, es, ea]; omega⟩ (by rw [es]; omega) ⟨⟨b2, by rw [ob.etg oR]; exact b4, by rw [ob.efI oR]; exact b5⟩, ⟨by rw [ob.efR oR, b6]; exact tN.1, by rw [ob.efR oR, b6, tN.2, hK], by rw [ob.efR oR, b6]; exact b9⟩, fun q => by have := h.2.2.2.2.2.1.2.2; omega, b11.fr oR (fun q h1 h2 h3 => FF.2.2.2.2 q (bW.le h2) (nt q h1 (fun z => h3 (by rw [z]; exact b7)))), fun i y hi => ?_⟩
  · exact b1.trans' FF (fun q hq => by
      rcases List.mem_cons.mp hq with z | z
      · right; omega
      · left; exact z)
  · rw [ob.efR oR, b6]
    have iK : i < K := by rw [hK]; exact (List.getElem?_eq_some_iff.mp hi).1
    have nM : NX ∉ MT M := fun z => by have := mem_MT.mp z; omega
    have oN := fF.2.2.2.2 NX (by have := l6.1; omega) nM
    rw [ob.eaR oN]
    refine CTn.lo hz _ _ _ _ (CTn.fr (p := p) l1.2.2.2.1 fF (fun g hg => ?_) (l8 i y iK hi))
    have := mem_MT.mp hg
    left; omega
theorem sC_tinit {x pl : Nat} (hx : 22 ≤ tg w x ∧ tg w x ≤ 25) (W : WF p w) (hm : cz w + 1 ≤ mz w ∧ cu w + 0 ≤ mu w) {Q : ZRes → CW → Prop} (hQ : Q (.inl none) (pR (ndW w x n) 109 x pl)) : wpC p (d + 2) 169 [ar x, ai (n : Nat), ar pl] w Q := by
  have x0 : x ≠ 0 := fun q => by have := W.1; rw [q] at hx; omega
  have xz := W.le (r := x) (by omega)
  refine wC_X25_init (Nat.zero_le _) (bC_X25_init_0 ⟨x0, sC_ninit (by omega) W hm ⟨?_, fa hQ⟩⟩)
  show hP 109 (tg (nA w 113 0) x) = true
  rw [tg_nA, if_neg (by omega)]
  rcases (by omega : tg w x = 22 ∨ tg w x = 23 ∨ tg w x = 24 ∨ tg w x = 25) with q | q | q | q <;> rw [q] <;> decide
end ZTruth
