/-! a rule's end, both: dead; what stays of other rules -/
section ZRule8
variable {p b e d : Nat} {w : CW} {τ : TW}
theorem rl_dead299 {h pl : Int} {f : Nat} (hf : f < 12) (D : Dd h pl τ) : DD [7, 8, 45] h pl (fun (Q : Unit → TW → Prop) => pT_readRule_299 (wpT (e + 9)) (fun w => Q () w) f τ) τ := by
  have hff : (0 : Int) ≤ (f : Int) ∧ (f : Int) < 12 := by omega
  obtain ⟨σ3, ⟨a3, b3, c3⟩, run3⟩ := dd_must (d := e + 5) (c := 59) D
  refine DD.pre (tm' := fun (Q : Unit → TW → Prop) => (0 ≤ (f : Int) ∧ (f : Int) < 12) ∧ (0 ≤ (f : Int) ∧ (f : Int) < 12) ∧ ∀ u62 : TW, u62 = sA σ3 45 f (w32 ((tA σ3 45 f) + 1)) → Q () u62) (S1 := [7, 8]) a3 (fun Q k => bT_readRule_299 (run3 _ k)) ?_
  exact DD.tw45 b3 (Or.inl c3) (fun Q k => ⟨hff, hff, k⟩) (fun u3 e3 D3 F3 => DD.ret (b := ()) D3 (fun Q k => k)) (by decide)
theorem dd_answer {h pl : Int} (D : Dd h pl τ) (h0 : tI τ 7 = 0) (r27 : 0 ≤ tI τ 27 ∧ tI τ 27 < 192) : DD [7, 8, 54, 57, 58] h pl (fun (Q : Unit → TW → Prop) => wpT (e + 9) 42 [] τ (zqV (fun u => Q () u) zno)) τ := by
  have hs := (D.ns h0 0).2.2
  obtain ⟨σ1, hσ1⟩ : ∃ σ1, σ1 = sA (sA (sA τ 57 (tI τ 27) (tI τ 5)) 58 (tI τ 27) 0) 54 (tI τ 27) 0 := ⟨_, rfl⟩
  have F1 : FT [54, 57, 58] τ σ1 := by rw [hσ1]; exact (((FT.refl _ τ).ssA (by decide)).ssA (by decide)).ssA (by decide)
  have D1 := D.ft F1 (by decide)
  obtain ⟨σ2, ⟨a, bb, c⟩, run⟩ := dd_stop (d := e + 6) (k := 2) D1 (by decide)
  refine DD.pre (tm' := fun (Q : Unit → TW → Prop) => Q () σ2) (S1 := [7, 8, 54, 57, 58]) ((F1.mono (by decide)).trans (a.mono (by decide))) (fun Q k => wT_readAnswer (by omega) (bT_readAnswer_0 ⟨r27, fun u1 hu1 => ?_⟩)) (DD.ret (b := ()) bb (fun Q k => k))
  have q1 : tI u1 27 = tI τ 27 := by rw [hu1]; rfl
  rw [q1]
  refine ⟨r27, fun u3 hu3 => br0 (by rw [hu3, hu1]; show ¬ (tI τ 3 = 1); omega) ?_⟩
  have q3 : tI u3 27 = tI τ 27 := by rw [hu3]; exact q1
  rw [q3]
  refine ⟨r27, fun u56 hu56 => ?_⟩
  have e56 : u56 = σ1 := by rw [hu56, hu3, hu1, hσ1]
  rw [e56]
  have s3 : tI σ1 3 = 7 := (F1 3 (by decide)).1.trans hs
  exact br1 ⟨by omega, (D1.ns ((F1 7 (by decide)).1.trans h0) 45).1⟩ (run _ k)
theorem rl_dead58 {h pl : Int} {f : Nat} (hf : f < 12) (D : Dd h pl τ) (r27 : 0 ≤ tI τ 27 ∧ tI τ 27 < 192) : DD [7, 8, 45, 54, 57, 58] h pl (fun (Q : Unit → TW → Prop) => ((tI τ 7) = 0 → wpT (e + 9) 42 [] τ (zqV (fun u64 => pT_readRule_299 (wpT (e + 9)) (fun w => Q () w) f u64) zno)) ∧ (¬ ((tI τ 7) = 0) → pT_readRule_299 (wpT (e + 9)) (fun w => Q () w) f τ)) τ := by
  by_cases z : tI τ 7 = 0
  · refine DD.bV (dd_answer (e := e) D z r27) (fun Q k => br1 z k) (fun u D1 F1 => (rl_dead299 (e := e) hf D1).mono)
  · exact DD.c (fun Q k => br0 z k) ((rl_dead299 (e := e) hf D).mono)
theorem rl_dead278b {h pl : Int} {f : Nat} (hf : f < 12) (D : Dd h pl τ) : DD [7, 8, 45] h pl (fun (Q : Unit → TW → Prop) => wpT (e + 9) 20 [ai 58] τ (zqV (fun u58 => ((tI u58 7) = 0 → wpT (e + 9) 42 [] u58 (zqV (fun u64 => pT_readRule_299 (wpT (e + 9)) (fun w => Q () w) f u64) zno)) ∧ (¬ ((tI u58 7) = 0) → pT_readRule_299 (wpT (e + 9)) (fun w => Q () w) f u58)) zno)) τ := by
  obtain ⟨σ2, ⟨a, bb, c⟩, run⟩ := dd_must (d := e + 5) (c := 58) D
  exact DD.pre (tm' := fun (Q : Unit → TW → Prop) => pT_readRule_299 (wpT (e + 9)) (fun w => Q () w) f σ2) (S1 := [7, 8]) a (fun Q k => run _ (br0 c k)) (rl_dead299 (e := e) hf bb)
theorem rl_dead278 {h pl : Int} {f : Nat} (hf : f < 12) (D : Dd h pl τ) (r27 : 0 ≤ tI τ 27 ∧ tI τ 27 < 192) : DD [7, 8, 45, 53] h pl (fun (Q : Unit → TW → Prop) => pT_readRule_278 (wpT (e + 9)) (fun w => Q () w) f τ) τ := by
  refine DD.tw (S1 := [53]) (tm2 := fun u (Q : Unit → TW → Prop) => wpT (e + 9) 20 [ai 58] u (zqV (fun u58 => ((tI u58 7) = 0 → wpT (e + 9) 42 [] u58 (zqV (fun u64 => pT_readRule_299 (wpT (e + 9)) (fun w => Q () w) f u64) zno)) ∧ (¬ ((tI u58 7) = 0) → pT_readRule_299 (wpT (e + 9)) (fun w => Q () w) f u58)) zno)) D (sA τ 53 (tI τ 27) 0) ((FT.refl _ _).ssA (by decide)) (fun Q k => bT_readRule_278 (wT_readGuard (by omega) (bT_readGuard_0 ⟨r27, fun u hu => br1 ?_ ?_⟩))) (fun u eu D1 F1 => (rl_dead278b (e := e) hf D1).mono)
  · by_cases y : tI u 7 = 0
    · exact Or.inr ((D.ft (show FT [53] τ u by rw [hu]; exact (FT.refl _ _).ssA (by decide)) (by decide)).ns y 3).2.1
    · exact Or.inl y
  · exact bT_readGuard_25 (k u hu)
/-- what stays of other rules -/
def URo (τ τ' : TW) (R : Nat) : Prop := ∀ f' i', i' < 16 → 16 * f' + i' ≠ R → URk τ τ' f' i'
theorem URo.trans {τ1 τ2 : TW} {R : Nat} (h : URo τ τ1 R) (k : URo τ1 τ2 R) : URo τ τ2 R := fun f' i' h1 h2 => (h f' i' h1 h2).trans (k f' i' h1 h2)
theorem URo.ft {S : List Nat} {τ' : TW} (F : FT S τ τ') (hS : ∀ f, f ∈ S → f < 16 ∨ 60 < f ∨ f = 45 ∨ f = 46) (R : Nat) : URo τ τ' R := fun f i _ _ => by
  have g : ∀ h, 16 ≤ h → h ≤ 60 → h ≠ 45 → h ≠ 46 → ∀ x, tA τ' h x = tA τ h x := fun h h1 h2 h3 h4 => (F h (fun y => by have := hS h y; omega)).2
  have n : np τ' = np τ := np_ft F (fun y => by have := hS _ y; omega)
  exact ⟨by omega, fun h h1 h2 x _ => g h (by omega) (by omega) (by omega) (by omega) _, fun h hh => g h (by omega) (by omega) (by omega) (by omega) _, fun x _ => g 30 (by decide) (by decide) (by decide) (by decide) _, fun x _ => ⟨g 50 (by decide) (by decide) (by decide) (by decide) _, g 51 (by decide) (by decide) (by decide) (by decide) _⟩, fun x _ => g 52 (by decide) (by decide) (by decide) (by decide) _, fun x _ => ⟨g 59 (by decide) (by decide) (by decide) (by decide) _, g 60 (by decide) (by decide) (by decide) (by decide) _⟩, g 43 (by decide) (by decide) (by decide) (by decide) _, fun x _ => g 44 (by decide) (by decide) (by decide) (by decide) _⟩
/-- the patterns of the rule R leave others -/
theorem RLI.uro {f R A i : Nat} {u0 u : CW} {σ0 σ : TW} {c : Nat → Nat} {Di : Nat → Nat → Prop} {Sn : Nat → Nat → Int} (h : RLI p f R A u0 σ0 i u σ c Di Sn) : URo σ0 σ R := by
  intro f' i' h1 h2
  obtain ⟨-, -, a3, -, ⟨-, -, a7⟩, -, ⟨q1, q2, q3, q4, q5⟩, a10, a11⟩ := h
  have F := a11.2.2.2.1
  have er : nR σ0 = R := by rw [← nR_ft F (by decide)]; exact a3
  rw [er] at q4 q5
  have g : ∀ h, 41 ≤ h → h ≤ 60 → h ≠ 47 → h ≠ 49 → ∀ x, tA σ h x = tA σ0 h x := fun h h1 h2 h3 h4 => (F h (by simp only [List.mem_cons, List.not_mem_nil, or_false]; omega)).2
  refine ⟨a10, q1, fun h hh => ?_, fun x hx => (q4 _ (by omega)).2, fun x _ => ⟨g 50 (by decide) (by decide) (by decide) (by decide) _, g 51 (by decide) (by decide) (by decide) (by decide) _⟩, fun x _ => g 52 (by decide) (by decide) (by decide) (by decide) _, fun x _ => ⟨g 59 (by decide) (by decide) (by decide) (by decide) _, g 60 (by decide) (by decide) (by decide) (by decide) _⟩, g 43 (by decide) (by decide) (by decide) (by decide) _, fun x _ => g 44 (by decide) (by decide) (by decide) (by decide) _⟩
  by_cases z28 : h = 28
  · subst z28; exact q5 _ h2
  · by_cases z47 : h = 47
    · subst z47; exact (a7 _ h2).1
    · by_cases z49 : h = 49
      · subst z49; exact (a7 _ h2).2
      · exact g h (by omega) (by omega) z47 z49 _
theorem URo.guard {S : List Nat} {τ' : TW} {R : Nat} (F : FT S τ τ') (hS : ∀ f, f ∈ S → f < 16 ∨ f = 50 ∨ f = 51 ∨ f = 52 ∨ f = 53) (h50 : ∀ x : Nat, x < 4 * R ∨ 4 * R + 4 ≤ x → tA τ' 50 x = tA τ 50 x ∧ tA τ' 51 x = tA τ 51 x) (h52 : ∀ x : Nat, x < 2 * R ∨ 2 * R + 2 ≤ x → tA τ' 52 x = tA τ 52 x) (h53 : ∀ x : Nat, x ≠ R → tA τ' 53 x = tA τ 53 x) : URo τ τ' R := fun f i h1 h2 => by
  have g : ∀ h, 16 ≤ h → (h < 50 ∨ 53 < h) → ∀ x, tA τ' h x = tA τ h x := fun h h1 h2 => (F h (fun y => by have := hS h y; omega)).2
  have n : np τ' = np τ := np_ft F (fun y => by have := hS _ y; omega)
  refine ⟨by omega, fun h h1 h2 x _ => g h (by omega) (by omega) _, fun h hh => ?_, fun x _ => g 30 (by decide) (by decide) _, fun x hx => h50 _ (by omega), fun x hx => h52 _ (by omega), fun x _ => ⟨g 59 (by decide) (by decide) _, g 60 (by decide) (by decide) _⟩, g 43 (by decide) (by decide) _, fun x _ => g 44 (by decide) (by decide) _⟩
  by_cases z : h = 53
  · subst z; exact h53 _ h2
  · exact g h (by omega) (by omega) _
theorem URo.answer {S : List Nat} {w w' : CW} {τ' : TW} {R x : Nat} (F : FT S τ τ') (hS : ∀ f, f ∈ S → f < 16 ∨ (54 ≤ f ∧ f ≤ 60)) (k : AnK w w' τ τ' x R) : URo τ τ' R := fun f i h1 h2 => by
  have g : ∀ h, 16 ≤ h → h < 54 → ∀ x, tA τ' h x = tA τ h x := fun h h1 h2 => (F h (fun y => by have := hS h y; omega)).2
  have n : np τ' = np τ := np_ft F (fun y => by have := hS _ y; omega)
  refine ⟨by omega, fun h h1 h2 x _ => g h (by omega) (by omega) _, fun h hh => ?_, fun x _ => g 30 (by decide) (by decide) _, fun x hx => ⟨g 50 (by decide) (by decide) _, g 51 (by decide) (by decide) _⟩, fun x hx => g 52 (by decide) (by decide) _, fun x hx => k.2.2 _ (by omega), g 43 (by decide) (by decide) _, fun x _ => g 44 (by decide) (by decide) _⟩
  by_cases z : h < 54
  · exact g h (by omega) z _
  · exact k.2.1 h (by omega) _ h2
end ZRule8
