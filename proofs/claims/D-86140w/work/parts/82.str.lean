/-! strings, plainly: the JDK's methods that the component uses -/
section ZStr
variable {p d : Nat} {w : CW}
theorem w32_s {a : Int} (h : -2147483648 ≤ a) (h' : a ≤ 2147483647) : w32 a = a := w32_id ⟨h, h'⟩
theorem w32_k {k : Nat} (h : k ≤ 1000000) : w32 ((k : Int) + 1) = ((k + 1 : Nat) : Int) := by rw [w32_s (by omega) (by omega)]; rfl
theorem i_shr0 {a : Int} (h : zr a) : i_shr a 0 = a := by
  rw [i_shr_def]
  have e : (zi 0 &&& 31) = 0 := by decide
  rw [e]
  have e2 : zi a >>> (0 : Int32) = zi a := by
    apply Int32.toBitVec_inj.mp
    simp
  rw [e2, zi_toInt h]
theorem i_shl0 {a : Int} (h : zr a) : i_shl a 0 = a := by
  rw [i_shl_def]
  have e : (zi 0 &&& 31) = 0 := by decide
  rw [e]
  have e2 : zi a <<< (0 : Int32) = zi a := by
    apply Int32.toBitVec_inj.mp
    simp
  rw [e2, zi_toInt h]
theorem ic255 {b : Int} (h0 : 0 ≤ b) (h1 : b ≤ 127) : i_c (i_and b 255) = b := by
  rw [i_c_def, i_and_def]
  have h : ∀ k : Fin 128, ((zi (zi ((k.val : Nat) : Int) &&& zi 255).toInt).toUInt32 % 65536).toInt32.toInt = ((k.val : Nat) : Int) := by decide +kernel
  have := h ⟨b.toNat, by omega⟩
  simpa [Int.toNat_of_nonneg h0] using this
theorem ic_id {b : Int} (h0 : 0 ≤ b) (h1 : b ≤ 127) : i_c b = b := by
  rw [i_c_def]
  have h : ∀ k : Fin 128, ((zi ((k.val : Nat) : Int)).toUInt32 % 65536).toInt32.toInt = ((k.val : Nat) : Int) := by decide +kernel
  have := h ⟨b.toNat, by omega⟩
  simpa [Int.toNat_of_nonneg h0] using this
theorem ib_id {b : Int} (h0 : 0 ≤ b) (h1 : b ≤ 127) : i_b b = b := by
  rw [i_b_def]
  have h : ∀ k : Fin 128, (zi ((k.val : Nat) : Int)).toInt8.toInt32.toInt = ((k.val : Nat) : Int) := by decide +kernel
  have := h ⟨b.toNat, by omega⟩
  simpa [Int.toNat_of_nonneg h0] using this
/-- bytes of an array -/
def bys (w : CW) (a : Nat) (s : List Int) : Prop := (tg w a = 101 ∨ tg w a = 106) ∧ ln w a = s.length ∧ ∀ i : Nat, i < s.length → aI w a i = s.getD i 0
/-- a string's letters -/
def sto (w : CW) (r : Nat) (s : List Int) : Prop := (tg w r = 32 ∨ tg w r = 34) ∧ fI w 124 r = 0 ∧ bys w (fR w 123 r) s
def ascii (s : List Int) : Prop := s.length ≤ 100 ∧ ∀ i : Nat, i < s.length → 0 ≤ s.getD i 0 ∧ s.getD i 0 ≤ 127
theorem sto.ehF {r : Nat} {s : List Int} (h : sto w r s) {f : Nat} (hf : f = 123 ∨ f = 124) : hF f (tg w r) = true := by
  rcases h.1 with e | e <;> rw [e] <;> rcases hf with rfl | rfl <;> decide
theorem bys.arr {a : Nat} {s : List Int} (h : bys w a s) : 101 ≤ tg w a ∧ tg w a ≤ 119 ∧ (tg w a < 107 ∨ 111 ≤ tg w a) := by rcases h.1 with e | e <;> omega
theorem bys.eaN {a : Nat} {s : List Int} (h : bys w a s) {i : Int} (h0 : 0 ≤ i) (h1 : i < s.length) : aN w a i = s.getD i.toNat 0 := by
  unfold aN
  rw [if_neg (by rcases h.1 with e | e <;> omega)]
  have := h.2.2 i.toNat (by omega)
  rw [← this]
  congr 1
  omega
theorem bys.eaNn {a : Nat} {s : List Int} (h : bys w a s) {i : Nat} (h1 : i < s.length) : aN w a (i : Int) = s.getD i 0 := by
  rw [h.eaN (by omega) (by omega), Int.toNat_natCast]
theorem bys.rd {a : Nat} {s : List Int} (h : bys w a s) {i : Int} (h0 : 0 ≤ i) (h1 : i < s.length) : (tg w a = 101 ∨ tg w a = 104 ∨ tg w a = 106) ∧ 0 ≤ i ∧ i < ln w a := by
  refine ⟨by rcases h.1 with e | e <;> omega, h0, ?_⟩
  rw [h.2.1]; exact h1
theorem sJ_coder {r : Nat} {s : List Int} {Q : ZRes → CW → Prop} (h : sto w r s) (hQ : Q (.inl (some (ai 0))) w) : wpC p (d + 1) 222 [ar r] w Q := by
  refine wC_J4_coder (Nat.zero_le _) ⟨fun _ => h.ehF (Or.inr rfl), ?_⟩
  refine fa ?_
  rw [if_neg (by decide), h.2.1]
  exact ⟨⟨by decide, by decide⟩, hQ⟩
theorem sJ_isLatin1 {r : Nat} {s : List Int} {Q : ZRes → CW → Prop} (h : sto w r s) (hQ : Q (.inl (some (ai 1))) w) : wpC p (d + 1) 230 [ar r] w Q := by
  refine wC_J4_isLatin1 (Nat.zero_le _) ⟨fun _ => h.ehF (Or.inr rfl), ?_⟩
  refine fa ?_
  rw [if_pos ⟨by decide, h.2.1⟩]
  exact hQ
theorem sJ_length {r : Nat} {s : List Int} {Q : ZRes → CW → Prop} (h : sto w r s) (hs : ascii s) (hQ : Q (.inl (some (ai s.length))) w) : wpC p (d + 2) 221 [ar r] w Q := by
  refine wC_J4_length (Nat.zero_le _) ⟨h.ehF (Or.inl rfl), h.2.2.arr, h.1, sJ_coder h ?_⟩
  show Q (.inl (some (ai (i_shr _ 0)))) w
  rw [h.2.2.2.1, i_shr0 (by have := hs.1; unfold zr; omega)]
  exact hQ
theorem sJ_checkIndex {i n : Int} {v : Nat} {Q : ZRes → CW → Prop} (h0 : 0 ≤ i) (h1 : i < n) (hQ : Q (.inl (some (ai i))) w) : wpC p (d + 1) 238 [ai i, ai n, ar v] w Q := by
  refine wC_J9_checkIndex (Nat.zero_le _) ⟨fun h => ?_, fun _ => hQ⟩
  rcases h with h | h
  · omega
  · exact absurd h1 h
theorem sJ_charAt {r : Nat} {s : List Int} {i : Int} {Q : ZRes → CW → Prop} (h : sto w r s) (hs : ascii s) (h0 : 0 ≤ i) (h1 : i < s.length) (hQ : Q (.inl (some (ai (s.getD i.toNat 0)))) w) : wpC p (d + 4) 233 [ar r, ai i] w Q := by
  have hb := hs.2 i.toNat (by omega)
  refine wC_J4_charAt (Nat.zero_le _) ⟨h.1, sJ_isLatin1 h ⟨fun e => (by cases e), fun _ => ⟨h.ehF (Or.inl rfl), ?_⟩⟩⟩
  refine wC_J10_charAt (Nat.zero_le _) ⟨h.2.2.arr, wC_J4_checkIndex (Nat.zero_le _) (fun v => sJ_checkIndex h0 (by rw [h.2.2.2.1]; exact h1) ?_)⟩
  have e : i_c (i_and (aN w (fR w 123 r) i) 255) = s.getD i.toNat 0 := by
    rw [h.2.2.eaN h0 h1, ic255 hb.1 hb.2]
  refine ⟨h.2.2.rd h0 h1, by rw [e]; omega, ?_⟩
  show _ ∧ _
  rw [e]
  exact ⟨by omega, hQ⟩
/-- loops: by a measure -/
theorem lpC {α : Type} (m : α → Nat) (P : α → Prop) (I : α → Prop) (hI : ∀ a, P a → (∀ b, P b → m b < m a → I b) → I a) : ∀ a, P a → I a := by
  have h : ∀ n a, m a < n → P a → I a := by
    intro n
    induction n with
    | zero => intro a h; omega
    | succ n ih => intro a h hp; exact hI a hp (fun b hb hm => ih b (by omega) hb)
  exact fun a hp => h (m a + 1) a (Nat.lt_succ_self _) hp
/-- the first place of a letter from k on; n: none -/
def fst (s : List Int) (c : Int) : Nat → Nat → Option Nat
  | 0, _ => none
  | n + 1, k => if s.getD k 0 = c then some k else fst s c n (k + 1)
theorem sJ_indexOfChar {a : Nat} {s : List Int} {c : Int} {Q : ZRes → CW → Prop} (h : bys w a s) (hs : ascii s) (hc : 0 ≤ c ∧ c ≤ 127) : ∀ n k : Nat, k + n = s.length → (∀ r : Int, (r = match fst s c n k with | some i => (i : Int) | none => -1) → Q (.inl (some (ai r))) w) → wpC p (d + 1) 244 [ar a, ai c, ai k, ai s.length] w Q := by
  intro n k hk hQ
  refine wC_J10_indexOfChar (Nat.zero_le _) ?_
  refine fa ?_
  rw [ib_id hc.1 hc.2]
  intro I hI
  have h100 := hs.1
  have key : ∀ n k : Nat, k + n = s.length → (∀ r : Int, (r = match fst s c n k with | some i => (i : Int) | none => -1) → Q (.inl (some (ai r))) w) → I k w := by
    intro n
    induction n with
    | zero =>
      intro k hk hQ
      apply hI
      refine ⟨fun _ => hQ _ rfl, fun h => ?_⟩
      omega
    | succ n ih =>
      intro k hk hQ
      apply hI
      refine ⟨fun h => ?_, fun _ => ⟨h.rd (by omega) (by omega), fun e => hQ _ ?_, fun e => ?_⟩⟩
      · omega
      · rw [h.eaNn (by omega)] at e
        unfold fst
        rw [if_pos e]
      · rw [h.eaNn (by omega)] at e
        refine fa ?_
        rw [w32_k (by omega)]
        refine ih (k + 1) (by omega) (fun r hr => hQ r ?_)
        rw [hr]
        conv => rhs; unfold fst
        rw [if_neg e]
  exact key n k hk hQ
theorem fst_in (s : List Int) (c : Int) : ∀ n k, (fst s c n k).isSome = true ↔ ∃ i, k ≤ i ∧ i < k + n ∧ s.getD i 0 = c := by
  intro n
  induction n with
  | zero => intro k; unfold fst; constructor
            · intro h; cases h
            · rintro ⟨i, h1, h2, _⟩; omega
  | succ n ih =>
    intro k
    unfold fst
    by_cases e : s.getD k 0 = c
    · rw [if_pos e]; exact ⟨fun _ => ⟨k, Nat.le_refl _, by omega, e⟩, fun _ => rfl⟩
    · rw [if_neg e, ih]
      constructor
      · rintro ⟨i, h1, h2, h3⟩; exact ⟨i, by omega, by omega, h3⟩
      · rintro ⟨i, h1, h2, h3⟩
        refine ⟨i, ?_, by omega, h3⟩
        rcases Nat.lt_or_ge k i with q | q
        · omega
        · have : i = k := by omega
          rw [this] at h3; exact absurd h3 e
/-- String.indexOf of a letter: whether it is there -/
theorem sJ_indexOf {r : Nat} {s : List Int} {c : Int} {Q : ZRes → CW → Prop} (h : sto w r s) (hs : ascii s) (hc : 0 ≤ c ∧ c ≤ 127) (hQ : ∀ v : Int, (v < 0 ↔ ¬ ∃ i : Nat, i < s.length ∧ s.getD i 0 = c) → Q (.inl (some (ai v))) w) : wpC p (d + 5) 231 [ar r, ai c] w Q := by
  have h100 := hs.1
  refine wC_J4_indexOf_2 (Nat.zero_le _) ⟨h.1, wC_J4_indexOf_3 (Nat.zero_le _) ⟨h.1, sJ_isLatin1 h ⟨fun e => (by cases e), fun _ => ⟨h.ehF (Or.inl rfl), h.1, sJ_length h hs ?_⟩⟩⟩⟩
  refine wC_J10_indexOf_3 (Nat.zero_le _) (wC_J10_canEncode_2 (Nat.zero_le _) ?_)
  refine fa ?_
  have e1 : (if ¬ (c < 0) ∧ (¬ (255 < c)) then (1 : Int) else 0) = 1 := if_pos ⟨by omega, by omega⟩
  rw [e1]
  refine ⟨fun e => (by cases e), fun _ => ?_⟩
  refine fa ?_
  refine ⟨h.2.2.arr, ?_⟩
  refine fa ?_
  rw [h.2.2.2.1, if_neg (by omega), if_neg (by omega)]
  refine ⟨fun hl => ?_, fun hl => hQ (-1) ⟨fun _ => ?_, fun _ => by decide⟩⟩
  · refine sJ_indexOfChar h.2.2 hs hc s.length 0 (by omega) (fun v hv => hQ v ?_)
    have := fst_in s c s.length 0
    constructor
    · intro hneg
      rintro ⟨i, h1, h2⟩
      have := this.mpr ⟨i, by omega, by omega, h2⟩
      match hm : fst s c s.length 0, this with
      | some j, _ => rw [hm] at hv; simp only at hv; omega
    · intro hno
      match hm : fst s c s.length 0 with
      | some j =>
        rw [hm] at this
        obtain ⟨i, h1, h2, h3⟩ := this.mp rfl
        exact absurd ⟨i, by omega, h3⟩ hno
      | none => rw [hm] at hv; simp only at hv; omega
  · rintro ⟨i, h1, h2⟩; omega
/-- a text stands in another at a place -/
def subAt (s t : List Int) (k : Nat) : Prop := k + t.length ≤ s.length ∧ ∀ i : Nat, i < t.length → s.getD (k + i) 0 = t.getD i 0
theorem sJ_indexOfStr {a b : Nat} {s t : List Int} {Q : ZRes → CW → Prop} (ha : bys w a s) (hb : bys w b t) (hs : ascii s) (ht : ascii t) (ht1 : 1 ≤ t.length) (hst : t.length ≤ s.length) (hQ : ∀ v : Int, (v < 0 ↔ ¬ ∃ k : Nat, subAt s t k) → Q (.inl (some (ai v))) w) : wpC p (d + 2) 240 [ar a, ar b] w Q := by
  have h100 := hs.1
  refine wC_J10_indexOf (Nat.zero_le _) ⟨hb.arr, fun e => ?_, fun _ => ⟨ha.arr, fun e => ?_, fun _ => ⟨ha.arr, hb.arr, ?_⟩⟩⟩
  · rw [hb.2.1] at e; omega
  · rw [ha.2.1] at e; omega
  rw [ha.2.1, hb.2.1]
  refine wC_J10_indexOf_2 (Nat.zero_le _) ⟨hb.rd (by decide) (by omega), ?_⟩
  refine fa ?_
  refine fa ?_
  rw [hb.eaN (by decide) (by omega), w32_s (by omega) (by omega)]
  intro I hI
  -- all before k don't stand
  have key : ∀ n k : Nat, s.length - t.length + 1 - k ≤ n → k ≤ s.length + 5 → (∀ j : Nat, j < k → ¬ subAt s t j) → I k w := by
    intro n
    induction n with
    | zero =>
      intro k hk hk5 hno
      apply hI
      refine ⟨fun _ => hQ (-1) ⟨fun _ => ?_, fun _ => by decide⟩, fun h => ?_⟩
      · rintro ⟨j, h1, h2⟩; exact hno j (by omega) ⟨h1, h2⟩
      · omega
    | succ n ih =>
      intro k hk hk5 hno
      -- what follows a first letter found at k
      have at52 : ∀ k : Nat, s.length - t.length + 1 - k ≤ n + 1 → k + t.length ≤ s.length → (∀ j : Nat, j < k → ¬ subAt s t j) → s.getD k 0 = t.getD 0 0 → pC_J10_indexOf_2_52 p (wpC p d) (fun v w => Q (.inl (some (ai v))) w) I a b (t.length : Int) (t.getD 0 0) ((s.length : Int) - t.length) (k : Int) w := by
        intro k hk hkt hno hfirst
        refine ⟨fun h => ?_, fun _ => ?_⟩
        · omega
        refine fa ?_
        refine fa ?_
        rw [w32_k (by omega), w32_s (a := ((k + 1 : Nat) : Int) + (t.length : Int)) (by omega) (by omega), w32_s (a := ((k + 1 : Nat) : Int) + (t.length : Int) - 1) (by omega) (by omega)]
        intro J hJ
        have key2 : ∀ m i : Nat, i + m = t.length → 1 ≤ i → (∀ q : Nat, q < i → s.getD (k + q) 0 = t.getD q 0) → J ((k + i : Nat) : Int) (i : Int) w := by
          intro m
          induction m with
          | zero =>
            intro i hi h1 hq
            apply hJ
            refine ⟨fun h => by omega, fun h => by omega, fun _ => ⟨fun _ => hQ k ⟨fun h => by omega, fun h => ?_⟩, fun h => by omega⟩⟩
            exact absurd ⟨k, hkt, fun q hq' => hq q (by omega)⟩ h
          | succ m ihm =>
            intro i hi h1 hq
            apply hJ
            have ea : aN w a ((k + i : Nat) : Int) = s.getD (k + i) 0 := ha.eaNn (by omega)
            have eb : aN w b (i : Int) = t.getD i 0 := hb.eaNn (by omega)
            refine ⟨fun _ => ⟨ha.rd (by omega) (by omega), hb.rd (by omega) (by omega)⟩, fun h => ?_, fun h => ⟨fun e => by omega, fun _ => ?_⟩⟩
            · refine fa ?_
              refine fa ?_
              rw [w32_k (by omega), w32_k (by omega)]
              exact ihm (i + 1) (by omega) (by omega) (fun q hq' => by
                rcases Nat.lt_or_ge q i with z | z
                · exact hq q z
                · have : q = i := by omega
                  rw [this, ← ea, ← eb]; exact h.2)
            · have hne : ¬ subAt s t k := fun hsub => h ⟨by omega, by rw [ea, eb]; exact hsub.2 i (by omega)⟩
              refine fa ?_
              rw [w32_k (by omega)]
              exact ih (k + 1) (by omega) (by omega) (fun j hj => by
                rcases Nat.lt_or_ge j k with z | z
                · exact hno j z
                · have : j = k := by omega
                  rw [this]; exact hne)
        exact key2 (t.length - 1) 1 (by omega) (Nat.le_refl _) (fun q hq => by
          have : q = 0 := by omega
          rw [this]; exact hfirst)
      apply hI
      refine ⟨fun h => hQ (-1) ⟨fun _ => ?_, fun _ => by decide⟩, fun h => ⟨ha.rd (by omega) (by omega), fun e => ?_, fun e => ?_⟩⟩
      · rintro ⟨j, h1, h2⟩; exact hno j (by omega) ⟨h1, h2⟩
      · rw [ha.eaNn (by omega)] at e
        exact at52 k hk (by omega) hno e
      · rw [ha.eaNn (by omega)] at e
        intro J hJ
        have key3 : ∀ m k : Nat, s.length - t.length + 1 - k ≤ m → k + t.length ≤ s.length → s.length - t.length + 1 - k ≤ n + 1 → (∀ j : Nat, j < k + 1 → ¬ subAt s t j) → J k w := by
          intro m
          induction m with
          | zero => intro k hk hkt hm hno; omega
          | succ m ihm =>
            intro k hk hkt hm hno
            apply hJ
            refine fa ?_
            rw [w32_k (by omega)]
            refine ⟨fun h => ha.rd (by omega) (by omega), fun h => ?_, fun h => ?_⟩
            · have h2 := h.2
              rw [ha.eaNn (by omega)] at h2
              exact ihm (k + 1) (by omega) (by omega) (by omega) (fun j hj => by
                rcases Nat.lt_or_ge j (k + 1) with z | z
                · exact hno j z
                · have : j = k + 1 := by omega
                  rw [this]
                  intro hs
                  exact h2 (hs.2 0 (by omega)))
            · by_cases hle : k + 1 + t.length ≤ s.length
              · have e3 : s.getD (k + 1) 0 = t.getD 0 0 := by
                  rcases Int.decEq (aN w a ((k + 1 : Nat) : Int)) (t.getD 0 0) with z | z
                  · exact absurd ⟨by omega, z⟩ h
                  · rw [ha.eaNn (by omega)] at z; exact z
                exact at52 (k + 1) (by omega) hle hno e3
              · refine ⟨fun _ => ?_, fun h => by omega⟩
                refine fa ?_
                rw [w32_k (by omega)]
                exact ih (k + 2) (by omega) (by omega) (fun j hj => by
                  rcases Nat.lt_or_ge j (k + 1) with z | z
                  · exact hno j z
                  · intro hs; have := hs.1; omega)
        refine key3 (n + 1) k (by omega) (by omega) (by omega) (fun j hj => ?_)
        rcases Nat.lt_or_ge j k with z | z
        · exact hno j z
        · have : j = k := by omega
          rw [this]
          intro hs
          exact e (hs.2 0 (by omega))
  exact key _ 0 (Nat.le_refl _) (Nat.zero_le _) (fun j hj => by omega)
/-- String.contains, of a string that is there -/
theorem sJ_contains {r q : Nat} {s t : List Int} {Q : ZRes → CW → Prop} (hr : sto w r s) (hq : sto w q t) (hs : ascii s) (ht : ascii t) (ht1 : 1 ≤ t.length) (hst : t.length ≤ s.length) (hQ : ∀ v : Int, (v = 0 ∨ v = 1) → (v = 1 ↔ ∃ k : Nat, subAt s t k) → Q (.inl (some (ai v))) w) : wpC p (d + 5) 227 [ar r, ar q] w Q := by
  refine wC_J4_contains (Nat.zero_le _) ?_
  have e : vm15 (tg w q) = 228 := by rcases hq.1 with e | e <;> rw [e] <;> rfl
  unfold pC_J4_contains_0
  rw [e]
  refine wC_J4_toString (Nat.zero_le _) ⟨hr.1, wC_J4_indexOf (Nat.zero_le _) ⟨hr.1, sJ_coder hr ⟨hq.1, sJ_coder hq ⟨fun _ => ⟨hr.1, sJ_isLatin1 hr ⟨fun e => (by cases e), fun _ => ⟨hr.ehF (Or.inl rfl), hq.ehF (Or.inl rfl), ?_⟩⟩⟩, fun e => absurd rfl e⟩⟩⟩⟩
  refine sJ_indexOfStr hr.2.2 hq.2.2 hs ht ht1 hst (fun v hv => ?_)
  refine fa ?_
  refine hQ _ ?_ ?_
  · by_cases z : v < 0
    · rw [if_neg (fun q => q z)]; exact Or.inl rfl
    · rw [if_pos z]; exact Or.inr rfl
  · by_cases z : v < 0
    · rw [if_neg (fun q => q z)]
      exact ⟨fun h => (by cases h), fun h => absurd h (hv.mp z)⟩
    · rw [if_pos z]
      refine ⟨fun _ => ?_, fun _ => rfl⟩
      exact Classical.byContradiction (fun h => z (hv.mpr h))
end ZStr
