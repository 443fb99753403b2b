/-! every method of the reference is as its weakest precondition says, at every depth; printed by tools/twin.py -/
section ZST
def zF2 {α β : Type} (P : α → β → Prop) : List α → List β → Prop
  | [], [] => True
  | a :: r, b :: s => P a b ∧ zF2 P r s
  | _, _ => False
theorem zF2_get {α β : Type} {P : α → β → Prop} : ∀ {l1 : List α} {l2 : List β}, zF2 P l1 l2 → ∀ (y : Nat) (b : β), l2[y]? = some b → ∃ a, l1[y]? = some a ∧ P a b := by
  intro l1
  induction l1 with
  | nil =>
    intro l2 h y b hb
    cases l2 with
    | nil => simp at hb
    | cons c s => exact h.elim
  | cons a r ih =>
    intro l2 h y b hb
    cases l2 with
    | nil => exact h.elim
    | cons c s =>
      cases y with
      | zero => simp at hb; subst hb; exact ⟨a, rfl, h.1⟩
      | succ y => simpa using ih h.2 y b (by simpa using hb)
theorem gT_feed {d : Nat} {D : TD} {B0 : Nat} {l : Launch} {lim : Nat × Nat} (S : SdT d D B0 l lim) : ∀ (as : List ZA) (w : TW) (Q : ZRes → TW → Prop), (1 ≤ d ∧ eT_feed (wpT d) as w Q) → zoks as → ZMX l (KnT D B0) (ZT D B0) yX1_feed (Cond.code yX1_feed cX1_feed 5 (some .int)) (d + 1) lim (cond false as (ar (D.x + 1) :: as)) w Q := by
  intro as w Q h hok
  obtain ⟨hk, h⟩ := h
  unfold eT_feed at h
  split at h
  · refine zx_body (by decide) (Or.inl ⟨rfl, rfl⟩) KnT.warm (Nat.le_of_ble_eq_true rfl) (fun Γ hl hQ G M => ?_)
    subst hl
    subst hQ
    exact zv_pick [0, 1, 3] rfl (cpT_feed_0 G M S hk (hok _ List.mem_cons_self) (hok _ (List.mem_cons_of_mem _ (List.mem_cons_self))) h)
  · exact h.elim
theorem gT_in {d : Nat} {D : TD} {B0 : Nat} {l : Launch} {lim : Nat × Nat} (S : SdT d D B0 l lim) : ∀ (as : List ZA) (w : TW) (Q : ZRes → TW → Prop), (0 ≤ d ∧ eT_in (wpT d) as w Q) → zoks as → ZMX l (KnT D B0) (ZT D B0) yX1_in (Cond.code yX1_in cX1_in 6 (some .boolean)) (d + 1) lim (cond true as (ar (D.x + 1) :: as)) w Q := by
  intro as w Q h hok
  obtain ⟨hk, h⟩ := h
  unfold eT_in at h
  split at h
  · refine zx_body (by decide) (Or.inl ⟨rfl, rfl⟩) KnT.warm (Nat.le_of_ble_eq_true rfl) (fun Γ hl hQ G M => ?_)
    subst hl
    subst hQ
    exact zv_pick [0, 2, 4] rfl (cpT_in_0 G M S hk (hok _ List.mem_cons_self) (hok _ (List.mem_cons_of_mem _ (List.mem_cons_self))) (hok _ (List.mem_cons_of_mem _ (List.mem_cons_of_mem _ (List.mem_cons_self)))) h)
  · exact h.elim
theorem gT_read {d : Nat} {D : TD} {B0 : Nat} {l : Launch} {lim : Nat × Nat} (S : SdT d D B0 l lim) : ∀ (as : List ZA) (w : TW) (Q : ZRes → TW → Prop), (1 ≤ d ∧ eT_read (wpT d) as w Q) → zoks as → ZMX l (KnT D B0) (ZT D B0) yX1_read (Cond.code yX1_read cX1_read 3 (some .int)) (d + 1) lim (cond false as (ar (D.x + 1) :: as)) w Q := by
  intro as w Q h hok
  obtain ⟨hk, h⟩ := h
  unfold eT_read at h
  split at h
  · refine zx_body (by decide) (Or.inl ⟨rfl, rfl⟩) KnT.warm (Nat.le_of_ble_eq_true rfl) (fun Γ hl hQ G M => ?_)
    subst hl
    subst hQ
    exact zv_pick [0] rfl (cpT_read_0 G M S hk h)
  · exact h.elim
theorem gT_beginTape {d : Nat} {D : TD} {B0 : Nat} {l : Launch} {lim : Nat × Nat} (S : SdT d D B0 l lim) : ∀ (as : List ZA) (w : TW) (Q : ZRes → TW → Prop), (0 ≤ d ∧ eT_beginTape (wpT d) as w Q) → zoks as → ZMX l (KnT D B0) (ZT D B0) yX1_beginTape (Cond.code yX1_beginTape cX1_beginTape 1 none) (d + 1) lim (cond false as (ar (D.x + 1) :: as)) w Q := by
  intro as w Q h hok
  obtain ⟨hk, h⟩ := h
  unfold eT_beginTape at h
  split at h
  · refine zx_body (by decide) (Or.inl ⟨rfl, rfl⟩) KnT.warm (Nat.le_of_ble_eq_true rfl) (fun Γ hl hQ G M => ?_)
    subst hl
    subst hQ
    exact zv_pick [0] rfl (cpT_beginTape_0 G M S hk h)
  · exact h.elim
theorem gT_next {d : Nat} {D : TD} {B0 : Nat} {l : Launch} {lim : Nat × Nat} (S : SdT d D B0 l lim) : ∀ (as : List ZA) (w : TW) (Q : ZRes → TW → Prop), (2 ≤ d ∧ eT_next (wpT d) as w Q) → zoks as → ZMX l (KnT D B0) (ZT D B0) yX1_next (Cond.code yX1_next cX1_next 3 none) (d + 1) lim (cond false as (ar (D.x + 1) :: as)) w Q := by
  intro as w Q h hok
  obtain ⟨hk, h⟩ := h
  unfold eT_next at h
  split at h
  · refine zx_body (by decide) (Or.inl ⟨rfl, rfl⟩) KnT.warm (Nat.le_of_ble_eq_true rfl) (fun Γ hl hQ G M => ?_)
    subst hl
    subst hQ
    exact zv_pick [0] rfl (cpT_next_0 G M S hk h)
  · exact h.elim
theorem gT_byteAt {d : Nat} {D : TD} {B0 : Nat} {l : Launch} {lim : Nat × Nat} (S : SdT d D B0 l lim) : ∀ (as : List ZA) (w : TW) (Q : ZRes → TW → Prop), (0 ≤ d ∧ eT_byteAt (wpT d) as w Q) → zoks as → ZMX l (KnT D B0) (ZT D B0) yX1_byteAt (Cond.code yX1_byteAt cX1_byteAt 2 (some .int)) (d + 1) lim (cond false as (ar (D.x + 1) :: as)) w Q := by
  intro as w Q h hok
  obtain ⟨hk, h⟩ := h
  unfold eT_byteAt at h
  split at h
  · refine zx_body (by decide) (Or.inl ⟨rfl, rfl⟩) KnT.warm (Nat.le_of_ble_eq_true rfl) (fun Γ hl hQ G M => ?_)
    subst hl
    subst hQ
    exact zv_pick [0, 1] rfl (cpT_byteAt_0 G M S hk (hok _ List.mem_cons_self) h)
  · exact h.elim
theorem gT_isSmall {d : Nat} {D : TD} {B0 : Nat} {l : Launch} {lim : Nat × Nat} (S : SdT d D B0 l lim) : ∀ (as : List ZA) (w : TW) (Q : ZRes → TW → Prop), (1 ≤ d ∧ eT_isSmall (wpT d) as w Q) → zoks as → ZMX l (KnT D B0) (ZT D B0) yX1_isSmall (Cond.code yX1_isSmall cX1_isSmall 1 (some .boolean)) (d + 1) lim (cond true as (ar (D.x + 1) :: as)) w Q := by
  intro as w Q h hok
  obtain ⟨hk, h⟩ := h
  unfold eT_isSmall at h
  split at h
  · refine zx_body (by decide) (Or.inl ⟨rfl, rfl⟩) KnT.warm (Nat.le_of_ble_eq_true rfl) (fun Γ hl hQ G M => ?_)
    subst hl
    subst hQ
    exact zv_pick [0] rfl (cpT_isSmall_0 G M S hk (hok _ List.mem_cons_self) h)
  · exact h.elim
theorem gT_name {d : Nat} {D : TD} {B0 : Nat} {l : Launch} {lim : Nat × Nat} (S : SdT d D B0 l lim) : ∀ (as : List ZA) (w : TW) (Q : ZRes → TW → Prop), (2 ≤ d ∧ eT_name (wpT d) as w Q) → zoks as → ZMX l (KnT D B0) (ZT D B0) yX1_name (Cond.code yX1_name cX1_name 3 none) (d + 1) lim (cond false as (ar (D.x + 1) :: as)) w Q := by
  intro as w Q h hok
  obtain ⟨hk, h⟩ := h
  unfold eT_name at h
  split at h
  · refine zx_body (by decide) (Or.inl ⟨rfl, rfl⟩) KnT.warm (Nat.le_of_ble_eq_true rfl) (fun Γ hl hQ G M => ?_)
    subst hl
    subst hQ
    exact zv_pick [0, 1] rfl (cpT_name_0 G M S hk (hok _ List.mem_cons_self) h)
  · exact h.elim
theorem gT_isFigure {d : Nat} {D : TD} {B0 : Nat} {l : Launch} {lim : Nat × Nat} (S : SdT d D B0 l lim) : ∀ (as : List ZA) (w : TW) (Q : ZRes → TW → Prop), (1 ≤ d ∧ eT_isFigure (wpT d) as w Q) → zoks as → ZMX l (KnT D B0) (ZT D B0) yX1_isFigure (Cond.code yX1_isFigure cX1_isFigure 1 (some .boolean)) (d + 1) lim (cond true as (ar (D.x + 1) :: as)) w Q := by
  intro as w Q h hok
  obtain ⟨hk, h⟩ := h
  unfold eT_isFigure at h
  split at h
  · refine zx_body (by decide) (Or.inl ⟨rfl, rfl⟩) KnT.warm (Nat.le_of_ble_eq_true rfl) (fun Γ hl hQ G M => ?_)
    subst hl
    subst hQ
    exact zv_pick [0] rfl (cpT_isFigure_0 G M S hk (hok _ List.mem_cons_self) h)
  · exact h.elim
theorem gT_wordOf {d : Nat} {D : TD} {B0 : Nat} {l : Launch} {lim : Nat × Nat} (S : SdT d D B0 l lim) : ∀ (as : List ZA) (w : TW) (Q : ZRes → TW → Prop), (0 ≤ d ∧ eT_wordOf (wpT d) as w Q) → zoks as → ZMX l (KnT D B0) (ZT D B0) yX1_wordOf (Cond.code yX1_wordOf cX1_wordOf 2 (some .int)) (d + 1) lim (cond true as (ar (D.x + 1) :: as)) w Q := by
  intro as w Q h hok
  obtain ⟨hk, h⟩ := h
  unfold eT_wordOf at h
  split at h
  · refine zx_body (by decide) (Or.inl ⟨rfl, rfl⟩) KnT.warm (Nat.le_of_ble_eq_true rfl) (fun Γ hl hQ G M => ?_)
    subst hl
    subst hQ
    exact zv_pick [0] rfl (cpT_wordOf_0 G M S hk (hok _ List.mem_cons_self) h)
  · exact h.elim
theorem gT_isWord {d : Nat} {D : TD} {B0 : Nat} {l : Launch} {lim : Nat × Nat} (S : SdT d D B0 l lim) : ∀ (as : List ZA) (w : TW) (Q : ZRes → TW → Prop), (0 ≤ d ∧ eT_isWord (wpT d) as w Q) → zoks as → ZMX l (KnT D B0) (ZT D B0) yX1_isWord (Cond.code yX1_isWord cX1_isWord 2 (some .boolean)) (d + 1) lim (cond false as (ar (D.x + 1) :: as)) w Q := by
  intro as w Q h hok
  obtain ⟨hk, h⟩ := h
  unfold eT_isWord at h
  split at h
  · refine zx_body (by decide) (Or.inl ⟨rfl, rfl⟩) KnT.warm (Nat.le_of_ble_eq_true rfl) (fun Γ hl hQ G M => ?_)
    subst hl
    subst hQ
    exact zv_pick [0, 1] rfl (cpT_isWord_0 G M S hk (hok _ List.mem_cons_self) h)
  · exact h.elim
theorem gT_readKind {d : Nat} {D : TD} {B0 : Nat} {l : Launch} {lim : Nat × Nat} (S : SdT d D B0 l lim) : ∀ (as : List ZA) (w : TW) (Q : ZRes → TW → Prop), (1 ≤ d ∧ eT_readKind (wpT d) as w Q) → zoks as → ZMX l (KnT D B0) (ZT D B0) yX1_readKind (Cond.code yX1_readKind cX1_readKind 5 none) (d + 1) lim (cond false as (ar (D.x + 1) :: as)) w Q := by
  intro as w Q h hok
  obtain ⟨hk, h⟩ := h
  unfold eT_readKind at h
  split at h
  · refine zx_body (by decide) (Or.inl ⟨rfl, rfl⟩) KnT.warm (Nat.le_of_ble_eq_true rfl) (fun Γ hl hQ G M => ?_)
    subst hl
    subst hQ
    exact zv_pick [0, 1] rfl (cpT_readKind_0 G M S hk (hok _ List.mem_cons_self) h)
  · exact h.elim
theorem gT_stop {d : Nat} {D : TD} {B0 : Nat} {l : Launch} {lim : Nat × Nat} (S : SdT d D B0 l lim) : ∀ (as : List ZA) (w : TW) (Q : ZRes → TW → Prop), (0 ≤ d ∧ eT_stop (wpT d) as w Q) → zoks as → ZMX l (KnT D B0) (ZT D B0) yX1_stop (Cond.code yX1_stop cX1_stop 2 none) (d + 1) lim (cond false as (ar (D.x + 1) :: as)) w Q := by
  intro as w Q h hok
  obtain ⟨hk, h⟩ := h
  unfold eT_stop at h
  split at h
  · refine zx_body (by decide) (Or.inl ⟨rfl, rfl⟩) KnT.warm (Nat.le_of_ble_eq_true rfl) (fun Γ hl hQ G M => ?_)
    subst hl
    subst hQ
    exact zv_pick [0, 1] rfl (cpT_stop_0 G M S hk (hok _ List.mem_cons_self) h)
  · exact h.elim
theorem gT_fails {d : Nat} {D : TD} {B0 : Nat} {l : Launch} {lim : Nat × Nat} (S : SdT d D B0 l lim) : ∀ (as : List ZA) (w : TW) (Q : ZRes → TW → Prop), (0 ≤ d ∧ eT_fails (wpT d) as w Q) → zoks as → ZMX l (KnT D B0) (ZT D B0) yX1_fails (Cond.code yX1_fails cX1_fails 3 none) (d + 1) lim (cond false as (ar (D.x + 1) :: as)) w Q := by
  intro as w Q h hok
  obtain ⟨hk, h⟩ := h
  unfold eT_fails at h
  split at h
  · refine zx_body (by decide) (Or.inl ⟨rfl, rfl⟩) KnT.warm (Nat.le_of_ble_eq_true rfl) (fun Γ hl hQ G M => ?_)
    subst hl
    subst hQ
    exact zv_pick [0, 1, 2] rfl (cpT_fails_0 G M S hk (hok _ List.mem_cons_self) (hok _ (List.mem_cons_of_mem _ (List.mem_cons_self))) h)
  · exact h.elim
theorem gT_kindOf {d : Nat} {D : TD} {B0 : Nat} {l : Launch} {lim : Nat × Nat} (S : SdT d D B0 l lim) : ∀ (as : List ZA) (w : TW) (Q : ZRes → TW → Prop), (0 ≤ d ∧ eT_kindOf (wpT d) as w Q) → zoks as → ZMX l (KnT D B0) (ZT D B0) yX1_kindOf (Cond.code yX1_kindOf cX1_kindOf 5 (some .int)) (d + 1) lim (cond false as (ar (D.x + 1) :: as)) w Q := by
  intro as w Q h hok
  obtain ⟨hk, h⟩ := h
  unfold eT_kindOf at h
  split at h
  · refine zx_body (by decide) (Or.inl ⟨rfl, rfl⟩) KnT.warm (Nat.le_of_ble_eq_true rfl) (fun Γ hl hQ G M => ?_)
    subst hl
    subst hQ
    exact zv_pick [0, 1] rfl (cpT_kindOf_0 G M S hk (hok _ List.mem_cons_self) h)
  · exact h.elim
theorem gT_readUnder {d : Nat} {D : TD} {B0 : Nat} {l : Launch} {lim : Nat × Nat} (S : SdT d D B0 l lim) : ∀ (as : List ZA) (w : TW) (Q : ZRes → TW → Prop), (0 ≤ d ∧ eT_readUnder (wpT d) as w Q) → zoks as → ZMX l (KnT D B0) (ZT D B0) yX1_readUnder (Cond.code yX1_readUnder cX1_readUnder 4 none) (d + 1) lim (cond false as (ar (D.x + 1) :: as)) w Q := by
  intro as w Q h hok
  obtain ⟨hk, h⟩ := h
  unfold eT_readUnder at h
  split at h
  · refine zx_body (by decide) (Or.inl ⟨rfl, rfl⟩) KnT.warm (Nat.le_of_ble_eq_true rfl) (fun Γ hl hQ G M => ?_)
    subst hl
    subst hQ
    exact zv_pick [0, 1, 2] rfl (cpT_readUnder_0 G M S hk (hok _ List.mem_cons_self) (hok _ (List.mem_cons_of_mem _ (List.mem_cons_self))) h)
  · exact h.elim
theorem gT_isSealed {d : Nat} {D : TD} {B0 : Nat} {l : Launch} {lim : Nat × Nat} (S : SdT d D B0 l lim) : ∀ (as : List ZA) (w : TW) (Q : ZRes → TW → Prop), (0 ≤ d ∧ eT_isSealed (wpT d) as w Q) → zoks as → ZMX l (KnT D B0) (ZT D B0) yX1_isSealed (Cond.code yX1_isSealed cX1_isSealed 4 (some .boolean)) (d + 1) lim (cond false as (ar (D.x + 1) :: as)) w Q := by
  intro as w Q h hok
  obtain ⟨hk, h⟩ := h
  unfold eT_isSealed at h
  split at h
  · refine zx_body (by decide) (Or.inl ⟨rfl, rfl⟩) KnT.warm (Nat.le_of_ble_eq_true rfl) (fun Γ hl hQ G M => ?_)
    subst hl
    subst hQ
    exact zv_pick [0, 1] rfl (cpT_isSealed_0 G M S hk (hok _ List.mem_cons_self) h)
  · exact h.elim
theorem gT_takes {d : Nat} {D : TD} {B0 : Nat} {l : Launch} {lim : Nat × Nat} (S : SdT d D B0 l lim) : ∀ (as : List ZA) (w : TW) (Q : ZRes → TW → Prop), (1 ≤ d ∧ eT_takes (wpT d) as w Q) → zoks as → ZMX l (KnT D B0) (ZT D B0) yX1_takes (Cond.code yX1_takes cX1_takes 3 (some .boolean)) (d + 1) lim (cond false as (ar (D.x + 1) :: as)) w Q := by
  intro as w Q h hok
  obtain ⟨hk, h⟩ := h
  unfold eT_takes at h
  split at h
  · refine zx_body (by decide) (Or.inl ⟨rfl, rfl⟩) KnT.warm (Nat.le_of_ble_eq_true rfl) (fun Γ hl hQ G M => ?_)
    subst hl
    subst hQ
    exact zv_pick [0, 1] rfl (cpT_takes_0 G M S hk (hok _ List.mem_cons_self) h)
  · exact h.elim
theorem gT_isSign {d : Nat} {D : TD} {B0 : Nat} {l : Launch} {lim : Nat × Nat} (S : SdT d D B0 l lim) : ∀ (as : List ZA) (w : TW) (Q : ZRes → TW → Prop), (0 ≤ d ∧ eT_isSign (wpT d) as w Q) → zoks as → ZMX l (KnT D B0) (ZT D B0) yX1_isSign (Cond.code yX1_isSign cX1_isSign 2 (some .boolean)) (d + 1) lim (cond false as (ar (D.x + 1) :: as)) w Q := by
  intro as w Q h hok
  obtain ⟨hk, h⟩ := h
  unfold eT_isSign at h
  split at h
  · refine zx_body (by decide) (Or.inl ⟨rfl, rfl⟩) KnT.warm (Nat.le_of_ble_eq_true rfl) (fun Γ hl hQ G M => ?_)
    subst hl
    subst hQ
    exact zv_pick [0, 1] rfl (cpT_isSign_0 G M S hk (hok _ List.mem_cons_self) h)
  · exact h.elim
theorem gT_readSort {d : Nat} {D : TD} {B0 : Nat} {l : Launch} {lim : Nat × Nat} (S : SdT d D B0 l lim) : ∀ (as : List ZA) (w : TW) (Q : ZRes → TW → Prop), (1 ≤ d ∧ eT_readSort (wpT d) as w Q) → zoks as → ZMX l (KnT D B0) (ZT D B0) yX1_readSort (Cond.code yX1_readSort cX1_readSort 3 (some .int)) (d + 1) lim (cond false as (ar (D.x + 1) :: as)) w Q := by
  intro as w Q h hok
  obtain ⟨hk, h⟩ := h
  unfold eT_readSort at h
  split at h
  · refine zx_body (by decide) (Or.inl ⟨rfl, rfl⟩) KnT.warm (Nat.le_of_ble_eq_true rfl) (fun Γ hl hQ G M => ?_)
    subst hl
    subst hQ
    exact zv_pick [0, 1] rfl (cpT_readSort_0 G M S hk (hok _ List.mem_cons_self) h)
  · exact h.elim
theorem gT_must {d : Nat} {D : TD} {B0 : Nat} {l : Launch} {lim : Nat × Nat} (S : SdT d D B0 l lim) : ∀ (as : List ZA) (w : TW) (Q : ZRes → TW → Prop), (0 ≤ d ∧ eT_must (wpT d) as w Q) → zoks as → ZMX l (KnT D B0) (ZT D B0) yX1_must (Cond.code yX1_must cX1_must 2 none) (d + 1) lim (cond false as (ar (D.x + 1) :: as)) w Q := by
  intro as w Q h hok
  obtain ⟨hk, h⟩ := h
  unfold eT_must at h
  split at h
  · refine zx_body (by decide) (Or.inl ⟨rfl, rfl⟩) KnT.warm (Nat.le_of_ble_eq_true rfl) (fun Γ hl hQ G M => ?_)
    subst hl
    subst hQ
    exact zv_pick [0, 1] rfl (cpT_must_0 G M S hk (hok _ List.mem_cons_self) h)
  · exact h.elim
theorem gT_readFunction {d : Nat} {D : TD} {B0 : Nat} {l : Launch} {lim : Nat × Nat} (S : SdT d D B0 l lim) : ∀ (as : List ZA) (w : TW) (Q : ZRes → TW → Prop), (1 ≤ d ∧ eT_readFunction (wpT d) as w Q) → zoks as → ZMX l (KnT D B0) (ZT D B0) yX1_readFunction (Cond.code yX1_readFunction cX1_readFunction 4 none) (d + 1) lim (cond false as (ar (D.x + 1) :: as)) w Q := by
  intro as w Q h hok
  obtain ⟨hk, h⟩ := h
  unfold eT_readFunction at h
  split at h
  · refine zx_body (by decide) (Or.inl ⟨rfl, rfl⟩) KnT.warm (Nat.le_of_ble_eq_true rfl) (fun Γ hl hQ G M => ?_)
    subst hl
    subst hQ
    exact zv_pick [0] rfl (cpT_readFunction_0 G M S hk h)
  · exact h.elim
theorem gT_functionOf {d : Nat} {D : TD} {B0 : Nat} {l : Launch} {lim : Nat × Nat} (S : SdT d D B0 l lim) : ∀ (as : List ZA) (w : TW) (Q : ZRes → TW → Prop), (0 ≤ d ∧ eT_functionOf (wpT d) as w Q) → zoks as → ZMX l (KnT D B0) (ZT D B0) yX1_functionOf (Cond.code yX1_functionOf cX1_functionOf 5 (some .int)) (d + 1) lim (cond false as (ar (D.x + 1) :: as)) w Q := by
  intro as w Q h hok
  obtain ⟨hk, h⟩ := h
  unfold eT_functionOf at h
  split at h
  · refine zx_body (by decide) (Or.inl ⟨rfl, rfl⟩) KnT.warm (Nat.le_of_ble_eq_true rfl) (fun Γ hl hQ G M => ?_)
    subst hl
    subst hQ
    exact zv_pick [0, 1] rfl (cpT_functionOf_0 G M S hk (hok _ List.mem_cons_self) h)
  · exact h.elim
theorem gT_readRule {d : Nat} {D : TD} {B0 : Nat} {l : Launch} {lim : Nat × Nat} (S : SdT d D B0 l lim) : ∀ (as : List ZA) (w : TW) (Q : ZRes → TW → Prop), (1 ≤ d ∧ eT_readRule (wpT d) as w Q) → zoks as → ZMX l (KnT D B0) (ZT D B0) yX1_readRule (Cond.code yX1_readRule cX1_readRule 7 none) (d + 1) lim (cond false as (ar (D.x + 1) :: as)) w Q := by
  intro as w Q h hok
  obtain ⟨hk, h⟩ := h
  unfold eT_readRule at h
  split at h
  · refine zx_body (by decide) (Or.inl ⟨rfl, rfl⟩) KnT.warm (Nat.le_of_ble_eq_true rfl) (fun Γ hl hQ G M => ?_)
    subst hl
    subst hQ
    exact zv_pick [0, 1] rfl (cpT_readRule_0 G M S hk (hok _ List.mem_cons_self) h)
  · exact h.elim
theorem gT_readPattern {d : Nat} {D : TD} {B0 : Nat} {l : Launch} {lim : Nat × Nat} (S : SdT d D B0 l lim) : ∀ (as : List ZA) (w : TW) (Q : ZRes → TW → Prop), (1 ≤ d ∧ eT_readPattern (wpT d) as w Q) → zoks as → ZMX l (KnT D B0) (ZT D B0) yX1_readPattern (Cond.code yX1_readPattern cX1_readPattern 6 (some .int)) (d + 1) lim (cond false as (ar (D.x + 1) :: as)) w Q := by
  intro as w Q h hok
  obtain ⟨hk, h⟩ := h
  unfold eT_readPattern at h
  split at h
  · refine zx_body (by decide) (Or.inl ⟨rfl, rfl⟩) KnT.warm (Nat.le_of_ble_eq_true rfl) (fun Γ hl hQ G M => ?_)
    subst hl
    subst hQ
    exact zv_pick [0, 1, 2] rfl (cpT_readPattern_0 G M S hk (hok _ List.mem_cons_self) (hok _ (List.mem_cons_of_mem _ (List.mem_cons_self))) h)
  · exact h.elim
theorem gT_begins {d : Nat} {D : TD} {B0 : Nat} {l : Launch} {lim : Nat × Nat} (S : SdT d D B0 l lim) : ∀ (as : List ZA) (w : TW) (Q : ZRes → TW → Prop), (1 ≤ d ∧ eT_begins (wpT d) as w Q) → zoks as → ZMX l (KnT D B0) (ZT D B0) yX1_begins (Cond.code yX1_begins cX1_begins 11 (some .int)) (d + 1) lim (cond false as (ar (D.x + 1) :: as)) w Q := by
  intro as w Q h hok
  obtain ⟨hk, h⟩ := h
  unfold eT_begins at h
  split at h
  · refine zx_body (by decide) (Or.inl ⟨rfl, rfl⟩) KnT.warm (Nat.le_of_ble_eq_true rfl) (fun Γ hl hQ G M => ?_)
    subst hl
    subst hQ
    exact zv_pick [0, 1, 2] rfl (cpT_begins_0 G M S hk (hok _ List.mem_cons_self) (hok _ (List.mem_cons_of_mem _ (List.mem_cons_self))) h)
  · exact h.elim
theorem gT_isOf {d : Nat} {D : TD} {B0 : Nat} {l : Launch} {lim : Nat × Nat} (S : SdT d D B0 l lim) : ∀ (as : List ZA) (w : TW) (Q : ZRes → TW → Prop), (0 ≤ d ∧ eT_isOf (wpT d) as w Q) → zoks as → ZMX l (KnT D B0) (ZT D B0) yX1_isOf (Cond.code yX1_isOf cX1_isOf 4 (some .boolean)) (d + 1) lim (cond false as (ar (D.x + 1) :: as)) w Q := by
  intro as w Q h hok
  obtain ⟨hk, h⟩ := h
  unfold eT_isOf at h
  split at h
  · refine zx_body (by decide) (Or.inl ⟨rfl, rfl⟩) KnT.warm (Nat.le_of_ble_eq_true rfl) (fun Γ hl hQ G M => ?_)
    subst hl
    subst hQ
    exact zv_pick [0, 1, 2] rfl (cpT_isOf_0 G M S hk (hok _ List.mem_cons_self) (hok _ (List.mem_cons_of_mem _ (List.mem_cons_self))) h)
  · exact h.elim
theorem gT_newPattern {d : Nat} {D : TD} {B0 : Nat} {l : Launch} {lim : Nat × Nat} (S : SdT d D B0 l lim) : ∀ (as : List ZA) (w : TW) (Q : ZRes → TW → Prop), (0 ≤ d ∧ eT_newPattern (wpT d) as w Q) → zoks as → ZMX l (KnT D B0) (ZT D B0) yX1_newPattern (Cond.code yX1_newPattern cX1_newPattern 4 (some .int)) (d + 1) lim (cond false as (ar (D.x + 1) :: as)) w Q := by
  intro as w Q h hok
  obtain ⟨hk, h⟩ := h
  unfold eT_newPattern at h
  split at h
  · refine zx_body (by decide) (Or.inl ⟨rfl, rfl⟩) KnT.warm (Nat.le_of_ble_eq_true rfl) (fun Γ hl hQ G M => ?_)
    subst hl
    subst hQ
    exact zv_pick [0, 1, 2] rfl (cpT_newPattern_0 G M S hk (hok _ List.mem_cons_self) (hok _ (List.mem_cons_of_mem _ (List.mem_cons_self))) h)
  · exact h.elim
theorem gT_nameOf {d : Nat} {D : TD} {B0 : Nat} {l : Launch} {lim : Nat × Nat} (S : SdT d D B0 l lim) : ∀ (as : List ZA) (w : TW) (Q : ZRes → TW → Prop), (0 ≤ d ∧ eT_nameOf (wpT d) as w Q) → zoks as → ZMX l (KnT D B0) (ZT D B0) yX1_nameOf (Cond.code yX1_nameOf cX1_nameOf 5 (some .int)) (d + 1) lim (cond false as (ar (D.x + 1) :: as)) w Q := by
  intro as w Q h hok
  obtain ⟨hk, h⟩ := h
  unfold eT_nameOf at h
  split at h
  · refine zx_body (by decide) (Or.inl ⟨rfl, rfl⟩) KnT.warm (Nat.le_of_ble_eq_true rfl) (fun Γ hl hQ G M => ?_)
    subst hl
    subst hQ
    exact zv_pick [0, 1] rfl (cpT_nameOf_0 G M S hk (hok _ List.mem_cons_self) h)
  · exact h.elim
theorem gT_binds {d : Nat} {D : TD} {B0 : Nat} {l : Launch} {lim : Nat × Nat} (S : SdT d D B0 l lim) : ∀ (as : List ZA) (w : TW) (Q : ZRes → TW → Prop), (0 ≤ d ∧ eT_binds (wpT d) as w Q) → zoks as → ZMX l (KnT D B0) (ZT D B0) yX1_binds (Cond.code yX1_binds cX1_binds 3 (some .int)) (d + 1) lim (cond false as (ar (D.x + 1) :: as)) w Q := by
  intro as w Q h hok
  obtain ⟨hk, h⟩ := h
  unfold eT_binds at h
  split at h
  · refine zx_body (by decide) (Or.inl ⟨rfl, rfl⟩) KnT.warm (Nat.le_of_ble_eq_true rfl) (fun Γ hl hQ G M => ?_)
    subst hl
    subst hQ
    exact zv_pick [0, 1] rfl (cpT_binds_0 G M S hk (hok _ List.mem_cons_self) h)
  · exact h.elim
theorem gT_range {d : Nat} {D : TD} {B0 : Nat} {l : Launch} {lim : Nat × Nat} (S : SdT d D B0 l lim) : ∀ (as : List ZA) (w : TW) (Q : ZRes → TW → Prop), (1 ≤ d ∧ eT_range (wpT d) as w Q) → zoks as → ZMX l (KnT D B0) (ZT D B0) yX1_range (Cond.code yX1_range cX1_range 3 none) (d + 1) lim (cond false as (ar (D.x + 1) :: as)) w Q := by
  intro as w Q h hok
  obtain ⟨hk, h⟩ := h
  unfold eT_range at h
  split at h
  · refine zx_body (by decide) (Or.inl ⟨rfl, rfl⟩) KnT.warm (Nat.le_of_ble_eq_true rfl) (fun Γ hl hQ G M => ?_)
    subst hl
    subst hQ
    exact zv_pick [0, 1, 2] rfl (cpT_range_0 G M S hk (hok _ List.mem_cons_self) (hok _ (List.mem_cons_of_mem _ (List.mem_cons_self))) h)
  · exact h.elim
theorem gT_number {d : Nat} {D : TD} {B0 : Nat} {l : Launch} {lim : Nat × Nat} (S : SdT d D B0 l lim) : ∀ (as : List ZA) (w : TW) (Q : ZRes → TW → Prop), (0 ≤ d ∧ eT_number (wpT d) as w Q) → zoks as → ZMX l (KnT D B0) (ZT D B0) yX1_number (Cond.code yX1_number cX1_number 3 (some .int)) (d + 1) lim (cond false as (ar (D.x + 1) :: as)) w Q := by
  intro as w Q h hok
  obtain ⟨hk, h⟩ := h
  unfold eT_number at h
  split at h
  · refine zx_body (by decide) (Or.inl ⟨rfl, rfl⟩) KnT.warm (Nat.le_of_ble_eq_true rfl) (fun Γ hl hQ G M => ?_)
    subst hl
    subst hQ
    exact zv_pick [0] rfl (cpT_number_0 G M S hk h)
  · exact h.elim
theorem gT_opens {d : Nat} {D : TD} {B0 : Nat} {l : Launch} {lim : Nat × Nat} (S : SdT d D B0 l lim) : ∀ (as : List ZA) (w : TW) (Q : ZRes → TW → Prop), (0 ≤ d ∧ eT_opens (wpT d) as w Q) → zoks as → ZMX l (KnT D B0) (ZT D B0) yX1_opens (Cond.code yX1_opens cX1_opens 3 none) (d + 1) lim (cond false as (ar (D.x + 1) :: as)) w Q := by
  intro as w Q h hok
  obtain ⟨hk, h⟩ := h
  unfold eT_opens at h
  split at h
  · refine zx_body (by decide) (Or.inl ⟨rfl, rfl⟩) KnT.warm (Nat.le_of_ble_eq_true rfl) (fun Γ hl hQ G M => ?_)
    subst hl
    subst hQ
    exact zv_pick [0, 1, 2] rfl (cpT_opens_0 G M S hk (hok _ List.mem_cons_self) (hok _ (List.mem_cons_of_mem _ (List.mem_cons_self))) h)
  · exact h.elim
theorem gT_wanted {d : Nat} {D : TD} {B0 : Nat} {l : Launch} {lim : Nat × Nat} (S : SdT d D B0 l lim) : ∀ (as : List ZA) (w : TW) (Q : ZRes → TW → Prop), (0 ≤ d ∧ eT_wanted (wpT d) as w Q) → zoks as → ZMX l (KnT D B0) (ZT D B0) yX1_wanted (Cond.code yX1_wanted cX1_wanted 2 (some .int)) (d + 1) lim (cond false as (ar (D.x + 1) :: as)) w Q := by
  intro as w Q h hok
  obtain ⟨hk, h⟩ := h
  unfold eT_wanted at h
  split at h
  · refine zx_body (by decide) (Or.inl ⟨rfl, rfl⟩) KnT.warm (Nat.le_of_ble_eq_true rfl) (fun Γ hl hQ G M => ?_)
    subst hl
    subst hQ
    exact zv_pick [0] rfl (cpT_wanted_0 G M S hk h)
  · exact h.elim
theorem gT_readAs {d : Nat} {D : TD} {B0 : Nat} {l : Launch} {lim : Nat × Nat} (S : SdT d D B0 l lim) : ∀ (as : List ZA) (w : TW) (Q : ZRes → TW → Prop), (1 ≤ d ∧ eT_readAs (wpT d) as w Q) → zoks as → ZMX l (KnT D B0) (ZT D B0) yX1_readAs (Cond.code yX1_readAs cX1_readAs 2 none) (d + 1) lim (cond false as (ar (D.x + 1) :: as)) w Q := by
  intro as w Q h hok
  obtain ⟨hk, h⟩ := h
  unfold eT_readAs at h
  split at h
  · refine zx_body (by decide) (Or.inl ⟨rfl, rfl⟩) KnT.warm (Nat.le_of_ble_eq_true rfl) (fun Γ hl hQ G M => ?_)
    subst hl
    subst hQ
    exact zv_pick [0, 1] rfl (cpT_readAs_0 G M S hk (hok _ List.mem_cons_self) h)
  · exact h.elim
theorem gT_comesInto {d : Nat} {D : TD} {B0 : Nat} {l : Launch} {lim : Nat × Nat} (S : SdT d D B0 l lim) : ∀ (as : List ZA) (w : TW) (Q : ZRes → TW → Prop), (0 ≤ d ∧ eT_comesInto (wpT d) as w Q) → zoks as → ZMX l (KnT D B0) (ZT D B0) yX1_comesInto (Cond.code yX1_comesInto cX1_comesInto 5 none) (d + 1) lim (cond false as (ar (D.x + 1) :: as)) w Q := by
  intro as w Q h hok
  obtain ⟨hk, h⟩ := h
  unfold eT_comesInto at h
  split at h
  · refine zx_body (by decide) (Or.inl ⟨rfl, rfl⟩) KnT.warm (Nat.le_of_ble_eq_true rfl) (fun Γ hl hQ G M => ?_)
    subst hl
    subst hQ
    exact zv_pick [0, 1] rfl (cpT_comesInto_0 G M S hk (hok _ List.mem_cons_self) h)
  · exact h.elim
theorem gT_goesOn {d : Nat} {D : TD} {B0 : Nat} {l : Launch} {lim : Nat × Nat} (S : SdT d D B0 l lim) : ∀ (as : List ZA) (w : TW) (Q : ZRes → TW → Prop), (1 ≤ d ∧ eT_goesOn (wpT d) as w Q) → zoks as → ZMX l (KnT D B0) (ZT D B0) yX1_goesOn (Cond.code yX1_goesOn cX1_goesOn 4 (some .boolean)) (d + 1) lim (cond false as (ar (D.x + 1) :: as)) w Q := by
  intro as w Q h hok
  obtain ⟨hk, h⟩ := h
  unfold eT_goesOn at h
  split at h
  · refine zx_body (by decide) (Or.inl ⟨rfl, rfl⟩) KnT.warm (Nat.le_of_ble_eq_true rfl) (fun Γ hl hQ G M => ?_)
    subst hl
    subst hQ
    exact zv_pick [0] rfl (cpT_goesOn_0 G M S hk h)
  · exact h.elim
theorem gT_endsAlternative {d : Nat} {D : TD} {B0 : Nat} {l : Launch} {lim : Nat × Nat} (S : SdT d D B0 l lim) : ∀ (as : List ZA) (w : TW) (Q : ZRes → TW → Prop), (0 ≤ d ∧ eT_endsAlternative (wpT d) as w Q) → zoks as → ZMX l (KnT D B0) (ZT D B0) yX1_endsAlternative (Cond.code yX1_endsAlternative cX1_endsAlternative 5 none) (d + 1) lim (cond false as (ar (D.x + 1) :: as)) w Q := by
  intro as w Q h hok
  obtain ⟨hk, h⟩ := h
  unfold eT_endsAlternative at h
  split at h
  · refine zx_body (by decide) (Or.inl ⟨rfl, rfl⟩) KnT.warm (Nat.le_of_ble_eq_true rfl) (fun Γ hl hQ G M => ?_)
    subst hl
    subst hQ
    exact zv_pick [0] rfl (cpT_endsAlternative_0 G M S hk h)
  · exact h.elim
theorem gT_readGuard {d : Nat} {D : TD} {B0 : Nat} {l : Launch} {lim : Nat × Nat} (S : SdT d D B0 l lim) : ∀ (as : List ZA) (w : TW) (Q : ZRes → TW → Prop), (1 ≤ d ∧ eT_readGuard (wpT d) as w Q) → zoks as → ZMX l (KnT D B0) (ZT D B0) yX1_readGuard (Cond.code yX1_readGuard cX1_readGuard 1 none) (d + 1) lim (cond false as (ar (D.x + 1) :: as)) w Q := by
  intro as w Q h hok
  obtain ⟨hk, h⟩ := h
  unfold eT_readGuard at h
  split at h
  · refine zx_body (by decide) (Or.inl ⟨rfl, rfl⟩) KnT.warm (Nat.le_of_ble_eq_true rfl) (fun Γ hl hQ G M => ?_)
    subst hl
    subst hQ
    exact zv_pick [0] rfl (cpT_readGuard_0 G M S hk h)
  · exact h.elim
theorem gT_readSum {d : Nat} {D : TD} {B0 : Nat} {l : Launch} {lim : Nat × Nat} (S : SdT d D B0 l lim) : ∀ (as : List ZA) (w : TW) (Q : ZRes → TW → Prop), (1 ≤ d ∧ eT_readSum (wpT d) as w Q) → zoks as → ZMX l (KnT D B0) (ZT D B0) yX1_readSum (Cond.code yX1_readSum cX1_readSum 3 none) (d + 1) lim (cond false as (ar (D.x + 1) :: as)) w Q := by
  intro as w Q h hok
  obtain ⟨hk, h⟩ := h
  unfold eT_readSum at h
  split at h
  · refine zx_body (by decide) (Or.inl ⟨rfl, rfl⟩) KnT.warm (Nat.le_of_ble_eq_true rfl) (fun Γ hl hQ G M => ?_)
    subst hl
    subst hQ
    exact zv_pick [0, 1, 2] rfl (cpT_readSum_0 G M S hk (hok _ List.mem_cons_self) (hok _ (List.mem_cons_of_mem _ (List.mem_cons_self))) h)
  · exact h.elim
theorem gT_readTerm {d : Nat} {D : TD} {B0 : Nat} {l : Launch} {lim : Nat × Nat} (S : SdT d D B0 l lim) : ∀ (as : List ZA) (w : TW) (Q : ZRes → TW → Prop), (1 ≤ d ∧ eT_readTerm (wpT d) as w Q) → zoks as → ZMX l (KnT D B0) (ZT D B0) yX1_readTerm (Cond.code yX1_readTerm cX1_readTerm 2 none) (d + 1) lim (cond false as (ar (D.x + 1) :: as)) w Q := by
  intro as w Q h hok
  obtain ⟨hk, h⟩ := h
  unfold eT_readTerm at h
  split at h
  · refine zx_body (by decide) (Or.inl ⟨rfl, rfl⟩) KnT.warm (Nat.le_of_ble_eq_true rfl) (fun Γ hl hQ G M => ?_)
    subst hl
    subst hQ
    exact zv_pick [0, 1] rfl (cpT_readTerm_0 G M S hk (hok _ List.mem_cons_self) h)
  · exact h.elim
theorem gT_boundName {d : Nat} {D : TD} {B0 : Nat} {l : Launch} {lim : Nat × Nat} (S : SdT d D B0 l lim) : ∀ (as : List ZA) (w : TW) (Q : ZRes → TW → Prop), (0 ≤ d ∧ eT_boundName (wpT d) as w Q) → zoks as → ZMX l (KnT D B0) (ZT D B0) yX1_boundName (Cond.code yX1_boundName cX1_boundName 3 (some .int)) (d + 1) lim (cond false as (ar (D.x + 1) :: as)) w Q := by
  intro as w Q h hok
  obtain ⟨hk, h⟩ := h
  unfold eT_boundName at h
  split at h
  · refine zx_body (by decide) (Or.inl ⟨rfl, rfl⟩) KnT.warm (Nat.le_of_ble_eq_true rfl) (fun Γ hl hQ G M => ?_)
    subst hl
    subst hQ
    exact zv_pick [0, 1] rfl (cpT_boundName_0 G M S hk (hok _ List.mem_cons_self) h)
  · exact h.elim
theorem gT_readAnswer {d : Nat} {D : TD} {B0 : Nat} {l : Launch} {lim : Nat × Nat} (S : SdT d D B0 l lim) : ∀ (as : List ZA) (w : TW) (Q : ZRes → TW → Prop), (1 ≤ d ∧ eT_readAnswer (wpT d) as w Q) → zoks as → ZMX l (KnT D B0) (ZT D B0) yX1_readAnswer (Cond.code yX1_readAnswer cX1_readAnswer 5 none) (d + 1) lim (cond false as (ar (D.x + 1) :: as)) w Q := by
  intro as w Q h hok
  obtain ⟨hk, h⟩ := h
  unfold eT_readAnswer at h
  split at h
  · refine zx_body (by decide) (Or.inl ⟨rfl, rfl⟩) KnT.warm (Nat.le_of_ble_eq_true rfl) (fun Γ hl hQ G M => ?_)
    subst hl
    subst hQ
    exact zv_pick [0] rfl (cpT_readAnswer_0 G M S hk h)
  · exact h.elim
theorem gT_judge {d : Nat} {D : TD} {B0 : Nat} {l : Launch} {lim : Nat × Nat} (S : SdT d D B0 l lim) : ∀ (as : List ZA) (w : TW) (Q : ZRes → TW → Prop), (0 ≤ d ∧ eT_judge (wpT d) as w Q) → zoks as → ZMX l (KnT D B0) (ZT D B0) yX1_judge (Cond.code yX1_judge cX1_judge 3 none) (d + 1) lim (cond false as (ar (D.x + 1) :: as)) w Q := by
  intro as w Q h hok
  obtain ⟨hk, h⟩ := h
  unfold eT_judge at h
  split at h
  · refine zx_body (by decide) (Or.inl ⟨rfl, rfl⟩) KnT.warm (Nat.le_of_ble_eq_true rfl) (fun Γ hl hQ G M => ?_)
    subst hl
    subst hQ
    exact zv_pick [0] rfl (cpT_judge_0 G M S hk h)
  · exact h.elim
theorem gT_judgeAnswer {d : Nat} {D : TD} {B0 : Nat} {l : Launch} {lim : Nat × Nat} (S : SdT d D B0 l lim) : ∀ (as : List ZA) (w : TW) (Q : ZRes → TW → Prop), (0 ≤ d ∧ eT_judgeAnswer (wpT d) as w Q) → zoks as → ZMX l (KnT D B0) (ZT D B0) yX1_judgeAnswer (Cond.code yX1_judgeAnswer cX1_judgeAnswer 7 none) (d + 1) lim (cond false as (ar (D.x + 1) :: as)) w Q := by
  intro as w Q h hok
  obtain ⟨hk, h⟩ := h
  unfold eT_judgeAnswer at h
  split at h
  · refine zx_body (by decide) (Or.inl ⟨rfl, rfl⟩) KnT.warm (Nat.le_of_ble_eq_true rfl) (fun Γ hl hQ G M => ?_)
    subst hl
    subst hQ
    exact zv_pick [0, 1] rfl (cpT_judgeAnswer_0 G M S hk (hok _ List.mem_cons_self) h)
  · exact h.elim
theorem gT_makes {d : Nat} {D : TD} {B0 : Nat} {l : Launch} {lim : Nat × Nat} (S : SdT d D B0 l lim) : ∀ (as : List ZA) (w : TW) (Q : ZRes → TW → Prop), (0 ≤ d ∧ eT_makes (wpT d) as w Q) → zoks as → ZMX l (KnT D B0) (ZT D B0) yX1_makes (Cond.code yX1_makes cX1_makes 9 (some .boolean)) (d + 1) lim (cond false as (ar (D.x + 1) :: as)) w Q := by
  intro as w Q h hok
  obtain ⟨hk, h⟩ := h
  unfold eT_makes at h
  split at h
  · refine zx_body (by decide) (Or.inl ⟨rfl, rfl⟩) KnT.warm (Nat.le_of_ble_eq_true rfl) (fun Γ hl hQ G M => ?_)
    subst hl
    subst hQ
    exact zv_pick [0, 1, 2, 3, 4] rfl (cpT_makes_0 G M S hk (hok _ List.mem_cons_self) (hok _ (List.mem_cons_of_mem _ (List.mem_cons_self))) (hok _ (List.mem_cons_of_mem _ (List.mem_cons_of_mem _ (List.mem_cons_self)))) (hok _ (List.mem_cons_of_mem _ (List.mem_cons_of_mem _ (List.mem_cons_of_mem _ (List.mem_cons_self))))) h)
  · exact h.elim
theorem gT_layRows {d : Nat} {D : TD} {B0 : Nat} {l : Launch} {lim : Nat × Nat} (S : SdT d D B0 l lim) : ∀ (as : List ZA) (w : TW) (Q : ZRes → TW → Prop), (0 ≤ d ∧ eT_layRows (wpT d) as w Q) → zoks as → ZMX l (KnT D B0) (ZT D B0) yX1_layRows (Cond.code yX1_layRows cX1_layRows 6 none) (d + 1) lim (cond false as (ar (D.x + 1) :: as)) w Q := by
  intro as w Q h hok
  obtain ⟨hk, h⟩ := h
  unfold eT_layRows at h
  split at h
  · refine zx_body (by decide) (Or.inl ⟨rfl, rfl⟩) KnT.warm (Nat.le_of_ble_eq_true rfl) (fun Γ hl hQ G M => ?_)
    subst hl
    subst hQ
    exact zv_pick [0, 1, 2] rfl (cpT_layRows_0 G M S hk (hok _ List.mem_cons_self) (hok _ (List.mem_cons_of_mem _ (List.mem_cons_self))) h)
  · exact h.elim
theorem gT_layRow {d : Nat} {D : TD} {B0 : Nat} {l : Launch} {lim : Nat × Nat} (S : SdT d D B0 l lim) : ∀ (as : List ZA) (w : TW) (Q : ZRes → TW → Prop), (0 ≤ d ∧ eT_layRow (wpT d) as w Q) → zoks as → ZMX l (KnT D B0) (ZT D B0) yX1_layRow (Cond.code yX1_layRow cX1_layRow 5 none) (d + 1) lim (cond false as (ar (D.x + 1) :: as)) w Q := by
  intro as w Q h hok
  obtain ⟨hk, h⟩ := h
  unfold eT_layRow at h
  split at h
  · refine zx_body (by decide) (Or.inl ⟨rfl, rfl⟩) KnT.warm (Nat.le_of_ble_eq_true rfl) (fun Γ hl hQ G M => ?_)
    subst hl
    subst hQ
    exact zv_pick [0, 1, 2] rfl (cpT_layRow_0 G M S hk (hok _ List.mem_cons_self) (hok _ (List.mem_cons_of_mem _ (List.mem_cons_self))) h)
  · exact h.elim
theorem gT_waitAll {d : Nat} {D : TD} {B0 : Nat} {l : Launch} {lim : Nat × Nat} (S : SdT d D B0 l lim) : ∀ (as : List ZA) (w : TW) (Q : ZRes → TW → Prop), (0 ≤ d ∧ eT_waitAll (wpT d) as w Q) → zoks as → ZMX l (KnT D B0) (ZT D B0) yX1_waitAll (Cond.code yX1_waitAll cX1_waitAll 10 none) (d + 1) lim (cond false as (ar (D.x + 1) :: as)) w Q := by
  intro as w Q h hok
  obtain ⟨hk, h⟩ := h
  unfold eT_waitAll at h
  split at h
  · refine zx_body (by decide) (Or.inl ⟨rfl, rfl⟩) KnT.warm (Nat.le_of_ble_eq_true rfl) (fun Γ hl hQ G M => ?_)
    subst hl
    subst hQ
    exact zv_pick [0, 1, 2, 3, 4] rfl (cpT_waitAll_0 G M S hk (hok _ List.mem_cons_self) (hok _ (List.mem_cons_of_mem _ (List.mem_cons_self))) (hok _ (List.mem_cons_of_mem _ (List.mem_cons_of_mem _ (List.mem_cons_self)))) (hok _ (List.mem_cons_of_mem _ (List.mem_cons_of_mem _ (List.mem_cons_of_mem _ (List.mem_cons_self))))) h)
  · exact h.elim
theorem gT_wait0 {d : Nat} {D : TD} {B0 : Nat} {l : Launch} {lim : Nat × Nat} (S : SdT d D B0 l lim) : ∀ (as : List ZA) (w : TW) (Q : ZRes → TW → Prop), (0 ≤ d ∧ eT_wait0 (wpT d) as w Q) → zoks as → ZMX l (KnT D B0) (ZT D B0) yX1_wait0 (Cond.code yX1_wait0 cX1_wait0 5 none) (d + 1) lim (cond false as (ar (D.x + 1) :: as)) w Q := by
  intro as w Q h hok
  obtain ⟨hk, h⟩ := h
  unfold eT_wait0 at h
  split at h
  · refine zx_body (by decide) (Or.inl ⟨rfl, rfl⟩) KnT.warm (Nat.le_of_ble_eq_true rfl) (fun Γ hl hQ G M => ?_)
    subst hl
    subst hQ
    exact zv_pick [0, 1, 2, 3, 4] rfl (cpT_wait0_0 G M S hk (hok _ List.mem_cons_self) (hok _ (List.mem_cons_of_mem _ (List.mem_cons_self))) (hok _ (List.mem_cons_of_mem _ (List.mem_cons_of_mem _ (List.mem_cons_self)))) (hok _ (List.mem_cons_of_mem _ (List.mem_cons_of_mem _ (List.mem_cons_of_mem _ (List.mem_cons_self))))) h)
  · exact h.elim
theorem gT_nextPattern {d : Nat} {D : TD} {B0 : Nat} {l : Launch} {lim : Nat × Nat} (S : SdT d D B0 l lim) : ∀ (as : List ZA) (w : TW) (Q : ZRes → TW → Prop), (0 ≤ d ∧ eT_nextPattern (wpT d) as w Q) → zoks as → ZMX l (KnT D B0) (ZT D B0) yX1_nextPattern (Cond.code yX1_nextPattern cX1_nextPattern 4 (some .int)) (d + 1) lim (cond false as (ar (D.x + 1) :: as)) w Q := by
  intro as w Q h hok
  obtain ⟨hk, h⟩ := h
  unfold eT_nextPattern at h
  split at h
  · refine zx_body (by decide) (Or.inl ⟨rfl, rfl⟩) KnT.warm (Nat.le_of_ble_eq_true rfl) (fun Γ hl hQ G M => ?_)
    subst hl
    subst hQ
    exact zv_pick [0] rfl (cpT_nextPattern_0 G M S hk h)
  · exact h.elim
theorem gT_notes {d : Nat} {D : TD} {B0 : Nat} {l : Launch} {lim : Nat × Nat} (S : SdT d D B0 l lim) : ∀ (as : List ZA) (w : TW) (Q : ZRes → TW → Prop), (0 ≤ d ∧ eT_notes (wpT d) as w Q) → zoks as → ZMX l (KnT D B0) (ZT D B0) yX1_notes (Cond.code yX1_notes cX1_notes 3 none) (d + 1) lim (cond false as (ar (D.x + 1) :: as)) w Q := by
  intro as w Q h hok
  obtain ⟨hk, h⟩ := h
  unfold eT_notes at h
  split at h
  · refine zx_body (by decide) (Or.inl ⟨rfl, rfl⟩) KnT.warm (Nat.le_of_ble_eq_true rfl) (fun Γ hl hQ G M => ?_)
    subst hl
    subst hQ
    exact zv_pick [0, 1, 2] rfl (cpT_notes_0 G M S hk (hok _ List.mem_cons_self) (hok _ (List.mem_cons_of_mem _ (List.mem_cons_self))) h)
  · exact h.elim
theorem gT_settle {d : Nat} {D : TD} {B0 : Nat} {l : Launch} {lim : Nat × Nat} (S : SdT d D B0 l lim) : ∀ (as : List ZA) (w : TW) (Q : ZRes → TW → Prop), (0 ≤ d ∧ eT_settle (wpT d) as w Q) → zoks as → ZMX l (KnT D B0) (ZT D B0) yX1_settle (Cond.code yX1_settle cX1_settle 6 none) (d + 1) lim (cond false as (ar (D.x + 1) :: as)) w Q := by
  intro as w Q h hok
  obtain ⟨hk, h⟩ := h
  unfold eT_settle at h
  split at h
  · refine zx_body (by decide) (Or.inl ⟨rfl, rfl⟩) KnT.warm (Nat.le_of_ble_eq_true rfl) (fun Γ hl hQ G M => ?_)
    subst hl
    subst hQ
    exact zv_pick [0, 1, 2] rfl (cpT_settle_0 G M S hk (hok _ List.mem_cons_self) (hok _ (List.mem_cons_of_mem _ (List.mem_cons_self))) h)
  · exact h.elim
theorem gT_layKnown {d : Nat} {D : TD} {B0 : Nat} {l : Launch} {lim : Nat × Nat} (S : SdT d D B0 l lim) : ∀ (as : List ZA) (w : TW) (Q : ZRes → TW → Prop), (0 ≤ d ∧ eT_layKnown (wpT d) as w Q) → zoks as → ZMX l (KnT D B0) (ZT D B0) yX1_layKnown (Cond.code yX1_layKnown cX1_layKnown 4 none) (d + 1) lim (cond false as (ar (D.x + 1) :: as)) w Q := by
  intro as w Q h hok
  obtain ⟨hk, h⟩ := h
  unfold eT_layKnown at h
  split at h
  · refine zx_body (by decide) (Or.inl ⟨rfl, rfl⟩) KnT.warm (Nat.le_of_ble_eq_true rfl) (fun Γ hl hQ G M => ?_)
    subst hl
    subst hQ
    exact zv_pick [0, 1] rfl (cpT_layKnown_0 G M S hk (hok _ List.mem_cons_self) h)
  · exact h.elim
theorem gT_sift {d : Nat} {D : TD} {B0 : Nat} {l : Launch} {lim : Nat × Nat} (S : SdT d D B0 l lim) : ∀ (as : List ZA) (w : TW) (Q : ZRes → TW → Prop), (0 ≤ d ∧ eT_sift (wpT d) as w Q) → zoks as → ZMX l (KnT D B0) (ZT D B0) yX1_sift (Cond.code yX1_sift cX1_sift 5 (some .int)) (d + 1) lim (cond false as (ar (D.x + 1) :: as)) w Q := by
  intro as w Q h hok
  obtain ⟨hk, h⟩ := h
  unfold eT_sift at h
  split at h
  · refine zx_body (by decide) (Or.inl ⟨rfl, rfl⟩) KnT.warm (Nat.le_of_ble_eq_true rfl) (fun Γ hl hQ G M => ?_)
    subst hl
    subst hQ
    exact zv_pick [0] rfl (cpT_sift_0 G M S hk h)
  · exact h.elim
theorem gT_stands {d : Nat} {D : TD} {B0 : Nat} {l : Launch} {lim : Nat × Nat} (S : SdT d D B0 l lim) : ∀ (as : List ZA) (w : TW) (Q : ZRes → TW → Prop), (0 ≤ d ∧ eT_stands (wpT d) as w Q) → zoks as → ZMX l (KnT D B0) (ZT D B0) yX1_stands (Cond.code yX1_stands cX1_stands 5 (some .int)) (d + 1) lim (cond false as (ar (D.x + 1) :: as)) w Q := by
  intro as w Q h hok
  obtain ⟨hk, h⟩ := h
  unfold eT_stands at h
  split at h
  · refine zx_body (by decide) (Or.inl ⟨rfl, rfl⟩) KnT.warm (Nat.le_of_ble_eq_true rfl) (fun Γ hl hQ G M => ?_)
    subst hl
    subst hQ
    exact zv_pick [0, 1] rfl (cpT_stands_0 G M S hk (hok _ List.mem_cons_self) h)
  · exact h.elim
theorem gT_asksAt {d : Nat} {D : TD} {B0 : Nat} {l : Launch} {lim : Nat × Nat} (S : SdT d D B0 l lim) : ∀ (as : List ZA) (w : TW) (Q : ZRes → TW → Prop), (0 ≤ d ∧ eT_asksAt (wpT d) as w Q) → zoks as → ZMX l (KnT D B0) (ZT D B0) yX1_asksAt (Cond.code yX1_asksAt cX1_asksAt 9 (some .int)) (d + 1) lim (cond false as (ar (D.x + 1) :: as)) w Q := by
  intro as w Q h hok
  obtain ⟨hk, h⟩ := h
  unfold eT_asksAt at h
  split at h
  · refine zx_body (by decide) (Or.inl ⟨rfl, rfl⟩) KnT.warm (Nat.le_of_ble_eq_true rfl) (fun Γ hl hQ G M => ?_)
    subst hl
    subst hQ
    exact zv_pick [0, 1, 2] rfl (cpT_asksAt_0 G M S hk (hok _ List.mem_cons_self) (hok _ (List.mem_cons_of_mem _ (List.mem_cons_self))) h)
  · exact h.elim
theorem gT_isLeft {d : Nat} {D : TD} {B0 : Nat} {l : Launch} {lim : Nat × Nat} (S : SdT d D B0 l lim) : ∀ (as : List ZA) (w : TW) (Q : ZRes → TW → Prop), (0 ≤ d ∧ eT_isLeft (wpT d) as w Q) → zoks as → ZMX l (KnT D B0) (ZT D B0) yX1_isLeft (Cond.code yX1_isLeft cX1_isLeft 5 (some .boolean)) (d + 1) lim (cond false as (ar (D.x + 1) :: as)) w Q := by
  intro as w Q h hok
  obtain ⟨hk, h⟩ := h
  unfold eT_isLeft at h
  split at h
  · refine zx_body (by decide) (Or.inl ⟨rfl, rfl⟩) KnT.warm (Nat.le_of_ble_eq_true rfl) (fun Γ hl hQ G M => ?_)
    subst hl
    subst hQ
    exact zv_pick [0, 1, 2] rfl (cpT_isLeft_0 G M S hk (hok _ List.mem_cons_self) (hok _ (List.mem_cons_of_mem _ (List.mem_cons_self))) h)
  · exact h.elim
theorem gT_layBranches {d : Nat} {D : TD} {B0 : Nat} {l : Launch} {lim : Nat × Nat} (S : SdT d D B0 l lim) : ∀ (as : List ZA) (w : TW) (Q : ZRes → TW → Prop), (0 ≤ d ∧ eT_layBranches (wpT d) as w Q) → zoks as → ZMX l (KnT D B0) (ZT D B0) yX1_layBranches (Cond.code yX1_layBranches cX1_layBranches 6 none) (d + 1) lim (cond false as (ar (D.x + 1) :: as)) w Q := by
  intro as w Q h hok
  obtain ⟨hk, h⟩ := h
  unfold eT_layBranches at h
  split at h
  · refine zx_body (by decide) (Or.inl ⟨rfl, rfl⟩) KnT.warm (Nat.le_of_ble_eq_true rfl) (fun Γ hl hQ G M => ?_)
    subst hl
    subst hQ
    exact zv_pick [0, 1, 2] rfl (cpT_layBranches_0 G M S hk (hok _ List.mem_cons_self) (hok _ (List.mem_cons_of_mem _ (List.mem_cons_self))) h)
  · exact h.elim
theorem gT_oneBranch {d : Nat} {D : TD} {B0 : Nat} {l : Launch} {lim : Nat × Nat} (S : SdT d D B0 l lim) : ∀ (as : List ZA) (w : TW) (Q : ZRes → TW → Prop), (0 ≤ d ∧ eT_oneBranch (wpT d) as w Q) → zoks as → ZMX l (KnT D B0) (ZT D B0) yX1_oneBranch (Cond.code yX1_oneBranch cX1_oneBranch 6 none) (d + 1) lim (cond false as (ar (D.x + 1) :: as)) w Q := by
  intro as w Q h hok
  obtain ⟨hk, h⟩ := h
  unfold eT_oneBranch at h
  split at h
  · refine zx_body (by decide) (Or.inl ⟨rfl, rfl⟩) KnT.warm (Nat.le_of_ble_eq_true rfl) (fun Γ hl hQ G M => ?_)
    subst hl
    subst hQ
    exact zv_pick [0, 1, 2, 3, 5] rfl (cpT_oneBranch_0 G M S hk (hok _ List.mem_cons_self) (hok _ (List.mem_cons_of_mem _ (List.mem_cons_self))) (hok _ (List.mem_cons_of_mem _ (List.mem_cons_of_mem _ (List.mem_cons_self)))) (hok _ (List.mem_cons_of_mem _ (List.mem_cons_of_mem _ (List.mem_cons_of_mem _ (List.mem_cons_self))))) h)
  · exact h.elim
theorem gT_cut {d : Nat} {D : TD} {B0 : Nat} {l : Launch} {lim : Nat × Nat} (S : SdT d D B0 l lim) : ∀ (as : List ZA) (w : TW) (Q : ZRes → TW → Prop), (0 ≤ d ∧ eT_cut (wpT d) as w Q) → zoks as → ZMX l (KnT D B0) (ZT D B0) yX1_cut (Cond.code yX1_cut cX1_cut 6 none) (d + 1) lim (cond false as (ar (D.x + 1) :: as)) w Q := by
  intro as w Q h hok
  obtain ⟨hk, h⟩ := h
  unfold eT_cut at h
  split at h
  · refine zx_body (by decide) (Or.inl ⟨rfl, rfl⟩) KnT.warm (Nat.le_of_ble_eq_true rfl) (fun Γ hl hQ G M => ?_)
    subst hl
    subst hQ
    exact zv_pick [0, 1] rfl (cpT_cut_0 G M S hk (hok _ List.mem_cons_self) h)
  · exact h.elim
theorem gT_wants {d : Nat} {D : TD} {B0 : Nat} {l : Launch} {lim : Nat × Nat} (S : SdT d D B0 l lim) : ∀ (as : List ZA) (w : TW) (Q : ZRes → TW → Prop), (0 ≤ d ∧ eT_wants (wpT d) as w Q) → zoks as → ZMX l (KnT D B0) (ZT D B0) yX1_wants (Cond.code yX1_wants cX1_wants 5 none) (d + 1) lim (cond false as (ar (D.x + 1) :: as)) w Q := by
  intro as w Q h hok
  obtain ⟨hk, h⟩ := h
  unfold eT_wants at h
  split at h
  · refine zx_body (by decide) (Or.inl ⟨rfl, rfl⟩) KnT.warm (Nat.le_of_ble_eq_true rfl) (fun Γ hl hQ G M => ?_)
    subst hl
    subst hQ
    exact zv_pick [0, 1] rfl (cpT_wants_0 G M S hk (hok _ List.mem_cons_self) h)
  · exact h.elim
theorem gT_parts {d : Nat} {D : TD} {B0 : Nat} {l : Launch} {lim : Nat × Nat} (S : SdT d D B0 l lim) : ∀ (as : List ZA) (w : TW) (Q : ZRes → TW → Prop), (0 ≤ d ∧ eT_parts (wpT d) as w Q) → zoks as → ZMX l (KnT D B0) (ZT D B0) yX1_parts (Cond.code yX1_parts cX1_parts 7 none) (d + 1) lim (cond false as (ar (D.x + 1) :: as)) w Q := by
  intro as w Q h hok
  obtain ⟨hk, h⟩ := h
  unfold eT_parts at h
  split at h
  · refine zx_body (by decide) (Or.inl ⟨rfl, rfl⟩) KnT.warm (Nat.le_of_ble_eq_true rfl) (fun Γ hl hQ G M => ?_)
    subst hl
    subst hQ
    exact zv_pick [0] rfl (cpT_parts_0 G M S hk h)
  · exact h.elim
theorem gT_layAhead {d : Nat} {D : TD} {B0 : Nat} {l : Launch} {lim : Nat × Nat} (S : SdT d D B0 l lim) : ∀ (as : List ZA) (w : TW) (Q : ZRes → TW → Prop), (0 ≤ d ∧ eT_layAhead (wpT d) as w Q) → zoks as → ZMX l (KnT D B0) (ZT D B0) yX1_layAhead (Cond.code yX1_layAhead cX1_layAhead 3 none) (d + 1) lim (cond false as (ar (D.x + 1) :: as)) w Q := by
  intro as w Q h hok
  obtain ⟨hk, h⟩ := h
  unfold eT_layAhead at h
  split at h
  · refine zx_body (by decide) (Or.inl ⟨rfl, rfl⟩) KnT.warm (Nat.le_of_ble_eq_true rfl) (fun Γ hl hQ G M => ?_)
    subst hl
    subst hQ
    exact zv_pick [0, 1] rfl (cpT_layAhead_0 G M S hk (hok _ List.mem_cons_self) h)
  · exact h.elim
theorem gT_fault {d : Nat} {D : TD} {B0 : Nat} {l : Launch} {lim : Nat × Nat} (S : SdT d D B0 l lim) : ∀ (as : List ZA) (w : TW) (Q : ZRes → TW → Prop), (0 ≤ d ∧ eT_fault (wpT d) as w Q) → zoks as → ZMX l (KnT D B0) (ZT D B0) yX1_fault (Cond.code yX1_fault cX1_fault 1 (some .int)) (d + 1) lim (cond false as (ar (D.x + 1) :: as)) w Q := by
  intro as w Q h hok
  obtain ⟨hk, h⟩ := h
  unfold eT_fault at h
  split at h
  · refine zx_body (by decide) (Or.inl ⟨rfl, rfl⟩) KnT.warm (Nat.le_of_ble_eq_true rfl) (fun Γ hl hQ G M => ?_)
    subst hl
    subst hQ
    exact zv_pick [0] rfl (cpT_fault_0 G M S hk h)
  · exact h.elim
theorem gT_add {d : Nat} {D : TD} {B0 : Nat} {l : Launch} {lim : Nat × Nat} (S : SdT d D B0 l lim) : ∀ (as : List ZA) (w : TW) (Q : ZRes → TW → Prop), (1 ≤ d ∧ eT_add (wpT d) as w Q) → zoks as → ZMX l (KnT D B0) (ZT D B0) yX1_add (Cond.code yX1_add cX1_add 2 (some .int)) (d + 1) lim (cond false as (ar (D.x + 1) :: as)) w Q := by
  intro as w Q h hok
  obtain ⟨hk, h⟩ := h
  unfold eT_add at h
  split at h
  · refine zx_body (by decide) (Or.inl ⟨rfl, rfl⟩) KnT.warm (Nat.le_of_ble_eq_true rfl) (fun Γ hl hQ G M => ?_)
    subst hl
    subst hQ
    exact zv_pick [0] rfl (cpT_add_0 G M S hk h)
  · exact h.elim
theorem gT_remake {d : Nat} {D : TD} {B0 : Nat} {l : Launch} {lim : Nat × Nat} (S : SdT d D B0 l lim) : ∀ (as : List ZA) (w : TW) (Q : ZRes → TW → Prop), (2 ≤ d ∧ eT_remake (wpT d) as w Q) → zoks as → ZMX l (KnT D B0) (ZT D B0) yX1_remake (Cond.code yX1_remake cX1_remake 7 (some .int)) (d + 1) lim (cond false as (ar (D.x + 1) :: as)) w Q := by
  intro as w Q h hok
  obtain ⟨hk, h⟩ := h
  unfold eT_remake at h
  split at h
  · refine zx_body (by decide) (Or.inl ⟨rfl, rfl⟩) KnT.warm (Nat.le_of_ble_eq_true rfl) (fun Γ hl hQ G M => ?_)
    subst hl
    subst hQ
    exact zv_pick [0, 1, 2] rfl (cpT_remake_0 G M S hk (hok _ List.mem_cons_self) (hok _ (List.mem_cons_of_mem _ (List.mem_cons_self))) h)
  · exact h.elim
theorem gT_isFunction {d : Nat} {D : TD} {B0 : Nat} {l : Launch} {lim : Nat × Nat} (S : SdT d D B0 l lim) : ∀ (as : List ZA) (w : TW) (Q : ZRes → TW → Prop), (1 ≤ d ∧ eT_isFunction (wpT d) as w Q) → zoks as → ZMX l (KnT D B0) (ZT D B0) yX1_isFunction (Cond.code yX1_isFunction cX1_isFunction 2 (some .boolean)) (d + 1) lim (cond false as (ar (D.x + 1) :: as)) w Q := by
  intro as w Q h hok
  obtain ⟨hk, h⟩ := h
  unfold eT_isFunction at h
  split at h
  · refine zx_body (by decide) (Or.inl ⟨rfl, rfl⟩) KnT.warm (Nat.le_of_ble_eq_true rfl) (fun Γ hl hQ G M => ?_)
    subst hl
    subst hQ
    exact zv_pick [0, 1] rfl (cpT_isFunction_0 G M S hk (hok _ List.mem_cons_self) h)
  · exact h.elim
theorem gT_moved {d : Nat} {D : TD} {B0 : Nat} {l : Launch} {lim : Nat × Nat} (S : SdT d D B0 l lim) : ∀ (as : List ZA) (w : TW) (Q : ZRes → TW → Prop), (0 ≤ d ∧ eT_moved (wpT d) as w Q) → zoks as → ZMX l (KnT D B0) (ZT D B0) yX1_moved (Cond.code yX1_moved cX1_moved 2 (some .int)) (d + 1) lim (cond true as (ar (D.x + 1) :: as)) w Q := by
  intro as w Q h hok
  obtain ⟨hk, h⟩ := h
  unfold eT_moved at h
  split at h
  · refine zx_body (by decide) (Or.inl ⟨rfl, rfl⟩) KnT.warm (Nat.le_of_ble_eq_true rfl) (fun Γ hl hQ G M => ?_)
    subst hl
    subst hQ
    exact zv_pick [0, 1] rfl (cpT_moved_0 G M S hk (hok _ List.mem_cons_self) (hok _ (List.mem_cons_of_mem _ (List.mem_cons_self))) h)
  · exact h.elim
theorem gT_kind {d : Nat} {D : TD} {B0 : Nat} {l : Launch} {lim : Nat × Nat} (S : SdT d D B0 l lim) : ∀ (as : List ZA) (w : TW) (Q : ZRes → TW → Prop), (2 ≤ d ∧ eT_kind (wpT d) as w Q) → zoks as → ZMX l (KnT D B0) (ZT D B0) yX1_kind (Cond.code yX1_kind cX1_kind 3 (some .int)) (d + 1) lim (cond false as (ar (D.x + 1) :: as)) w Q := by
  intro as w Q h hok
  obtain ⟨hk, h⟩ := h
  unfold eT_kind at h
  split at h
  · refine zx_body (by decide) (Or.inl ⟨rfl, rfl⟩) KnT.warm (Nat.le_of_ble_eq_true rfl) (fun Γ hl hQ G M => ?_)
    subst hl
    subst hQ
    exact zv_pick [0, 1, 2] rfl (cpT_kind_0 G M S hk (hok _ List.mem_cons_self) (hok _ (List.mem_cons_of_mem _ (List.mem_cons_self))) h)
  · exact h.elim
theorem gT_isKind {d : Nat} {D : TD} {B0 : Nat} {l : Launch} {lim : Nat × Nat} (S : SdT d D B0 l lim) : ∀ (as : List ZA) (w : TW) (Q : ZRes → TW → Prop), (1 ≤ d ∧ eT_isKind (wpT d) as w Q) → zoks as → ZMX l (KnT D B0) (ZT D B0) yX1_isKind (Cond.code yX1_isKind cX1_isKind 2 (some .boolean)) (d + 1) lim (cond false as (ar (D.x + 1) :: as)) w Q := by
  intro as w Q h hok
  obtain ⟨hk, h⟩ := h
  unfold eT_isKind at h
  split at h
  · refine zx_body (by decide) (Or.inl ⟨rfl, rfl⟩) KnT.warm (Nat.le_of_ble_eq_true rfl) (fun Γ hl hQ G M => ?_)
    subst hl
    subst hQ
    exact zv_pick [0, 1] rfl (cpT_isKind_0 G M S hk (hok _ List.mem_cons_self) h)
  · exact h.elim
theorem gT_kindNamed {d : Nat} {D : TD} {B0 : Nat} {l : Launch} {lim : Nat × Nat} (S : SdT d D B0 l lim) : ∀ (as : List ZA) (w : TW) (Q : ZRes → TW → Prop), (0 ≤ d ∧ eT_kindNamed (wpT d) as w Q) → zoks as → ZMX l (KnT D B0) (ZT D B0) yX1_kindNamed (Cond.code yX1_kindNamed cX1_kindNamed 3 (some .int)) (d + 1) lim (cond false as (ar (D.x + 1) :: as)) w Q := by
  intro as w Q h hok
  obtain ⟨hk, h⟩ := h
  unfold eT_kindNamed at h
  split at h
  · refine zx_body (by decide) (Or.inl ⟨rfl, rfl⟩) KnT.warm (Nat.le_of_ble_eq_true rfl) (fun Γ hl hQ G M => ?_)
    subst hl
    subst hQ
    exact zv_pick [0, 1] rfl (cpT_kindNamed_0 G M S hk (hok _ List.mem_cons_self) h)
  · exact h.elim
theorem gT_function {d : Nat} {D : TD} {B0 : Nat} {l : Launch} {lim : Nat × Nat} (S : SdT d D B0 l lim) : ∀ (as : List ZA) (w : TW) (Q : ZRes → TW → Prop), (2 ≤ d ∧ eT_function (wpT d) as w Q) → zoks as → ZMX l (KnT D B0) (ZT D B0) yX1_function (Cond.code yX1_function cX1_function 3 (some .int)) (d + 1) lim (cond false as (ar (D.x + 1) :: as)) w Q := by
  intro as w Q h hok
  obtain ⟨hk, h⟩ := h
  unfold eT_function at h
  split at h
  · refine zx_body (by decide) (Or.inl ⟨rfl, rfl⟩) KnT.warm (Nat.le_of_ble_eq_true rfl) (fun Γ hl hQ G M => ?_)
    subst hl
    subst hQ
    exact zv_pick [0, 1, 2] rfl (cpT_function_0 G M S hk (hok _ List.mem_cons_self) (hok _ (List.mem_cons_of_mem _ (List.mem_cons_self))) h)
  · exact h.elim
theorem gT_depth {d : Nat} {D : TD} {B0 : Nat} {l : Launch} {lim : Nat × Nat} (S : SdT d D B0 l lim) : ∀ (as : List ZA) (w : TW) (Q : ZRes → TW → Prop), (0 ≤ d ∧ eT_depth (wpT d) as w Q) → zoks as → ZMX l (KnT D B0) (ZT D B0) yX1_depth (Cond.code yX1_depth cX1_depth 6 (some .int)) (d + 1) lim (cond false as (ar (D.x + 1) :: as)) w Q := by
  intro as w Q h hok
  obtain ⟨hk, h⟩ := h
  unfold eT_depth at h
  split at h
  · refine zx_body (by decide) (Or.inl ⟨rfl, rfl⟩) KnT.warm (Nat.le_of_ble_eq_true rfl) (fun Γ hl hQ G M => ?_)
    subst hl
    subst hQ
    exact zv_pick [0, 1] rfl (cpT_depth_0 G M S hk (hok _ List.mem_cons_self) h)
  · exact h.elim
theorem gT_node {d : Nat} {D : TD} {B0 : Nat} {l : Launch} {lim : Nat × Nat} (S : SdT d D B0 l lim) : ∀ (as : List ZA) (w : TW) (Q : ZRes → TW → Prop), (2 ≤ d ∧ eT_node (wpT d) as w Q) → zoks as → ZMX l (KnT D B0) (ZT D B0) yX1_node (Cond.code yX1_node cX1_node 7 (some .int)) (d + 1) lim (cond false as (ar (D.x + 1) :: as)) w Q := by
  intro as w Q h hok
  obtain ⟨hk, h⟩ := h
  unfold eT_node at h
  split at h
  · refine zx_body (by decide) (Or.inl ⟨rfl, rfl⟩) KnT.warm (Nat.le_of_ble_eq_true rfl) (fun Γ hl hQ G M => ?_)
    subst hl
    subst hQ
    exact zv_pick [0, 1, 2, 3] rfl (cpT_node_0 G M S hk (hok _ List.mem_cons_self) (hok _ (List.mem_cons_of_mem _ (List.mem_cons_self))) (hok _ (List.mem_cons_of_mem _ (List.mem_cons_of_mem _ (List.mem_cons_self)))) h)
  · exact h.elim
theorem gT_branch {d : Nat} {D : TD} {B0 : Nat} {l : Launch} {lim : Nat × Nat} (S : SdT d D B0 l lim) : ∀ (as : List ZA) (w : TW) (Q : ZRes → TW → Prop), (2 ≤ d ∧ eT_branch (wpT d) as w Q) → zoks as → ZMX l (KnT D B0) (ZT D B0) yX1_branch (Cond.code yX1_branch cX1_branch 6 (some .int)) (d + 1) lim (cond false as (ar (D.x + 1) :: as)) w Q := by
  intro as w Q h hok
  obtain ⟨hk, h⟩ := h
  unfold eT_branch at h
  split at h
  · refine zx_body (by decide) (Or.inl ⟨rfl, rfl⟩) KnT.warm (Nat.le_of_ble_eq_true rfl) (fun Γ hl hQ G M => ?_)
    subst hl
    subst hQ
    exact zv_pick [0, 1, 2, 3] rfl (cpT_branch_0 G M S hk (hok _ List.mem_cons_self) (hok _ (List.mem_cons_of_mem _ (List.mem_cons_self))) (hok _ (List.mem_cons_of_mem _ (List.mem_cons_of_mem _ (List.mem_cons_self)))) h)
  · exact h.elim
theorem gT_missing {d : Nat} {D : TD} {B0 : Nat} {l : Launch} {lim : Nat × Nat} (S : SdT d D B0 l lim) : ∀ (as : List ZA) (w : TW) (Q : ZRes → TW → Prop), (2 ≤ d ∧ eT_missing (wpT d) as w Q) → zoks as → ZMX l (KnT D B0) (ZT D B0) yX1_missing (Cond.code yX1_missing cX1_missing 4 (some .int)) (d + 1) lim (cond false as (ar (D.x + 1) :: as)) w Q := by
  intro as w Q h hok
  obtain ⟨hk, h⟩ := h
  unfold eT_missing at h
  split at h
  · refine zx_body (by decide) (Or.inl ⟨rfl, rfl⟩) KnT.warm (Nat.le_of_ble_eq_true rfl) (fun Γ hl hQ G M => ?_)
    subst hl
    subst hQ
    exact zv_pick [0, 1] rfl (cpT_missing_0 G M S hk (hok _ List.mem_cons_self) h)
  · exact h.elim
theorem gT_unreached {d : Nat} {D : TD} {B0 : Nat} {l : Launch} {lim : Nat × Nat} (S : SdT d D B0 l lim) : ∀ (as : List ZA) (w : TW) (Q : ZRes → TW → Prop), (2 ≤ d ∧ eT_unreached (wpT d) as w Q) → zoks as → ZMX l (KnT D B0) (ZT D B0) yX1_unreached (Cond.code yX1_unreached cX1_unreached 5 (some .int)) (d + 1) lim (cond false as (ar (D.x + 1) :: as)) w Q := by
  intro as w Q h hok
  obtain ⟨hk, h⟩ := h
  unfold eT_unreached at h
  split at h
  · refine zx_body (by decide) (Or.inl ⟨rfl, rfl⟩) KnT.warm (Nat.le_of_ble_eq_true rfl) (fun Γ hl hQ G M => ?_)
    subst hl
    subst hQ
    exact zv_pick [0, 1, 2] rfl (cpT_unreached_0 G M S hk (hok _ List.mem_cons_self) (hok _ (List.mem_cons_of_mem _ (List.mem_cons_self))) h)
  · exact h.elim
theorem gT_whole {d : Nat} {D : TD} {B0 : Nat} {l : Launch} {lim : Nat × Nat} (S : SdT d D B0 l lim) : ∀ (as : List ZA) (w : TW) (Q : ZRes → TW → Prop), (0 ≤ d ∧ eT_whole (wpT d) as w Q) → zoks as → ZMX l (KnT D B0) (ZT D B0) yX1_whole (Cond.code yX1_whole cX1_whole 2 (some .int)) (d + 1) lim (cond false as (ar (D.x + 1) :: as)) w Q := by
  intro as w Q h hok
  obtain ⟨hk, h⟩ := h
  unfold eT_whole at h
  split at h
  · refine zx_body (by decide) (Or.inl ⟨rfl, rfl⟩) KnT.warm (Nat.le_of_ble_eq_true rfl) (fun Γ hl hQ G M => ?_)
    subst hl
    subst hQ
    exact zv_pick [0, 1] rfl (cpT_whole_0 G M S hk (hok _ List.mem_cons_self) h)
  · exact h.elim
theorem gT_newValue {d : Nat} {D : TD} {B0 : Nat} {l : Launch} {lim : Nat × Nat} (S : SdT d D B0 l lim) : ∀ (as : List ZA) (w : TW) (Q : ZRes → TW → Prop), (0 ≤ d ∧ eT_newValue (wpT d) as w Q) → zoks as → ZMX l (KnT D B0) (ZT D B0) yX1_newValue (Cond.code yX1_newValue cX1_newValue 5 (some .int)) (d + 1) lim (cond false as (ar (D.x + 1) :: as)) w Q := by
  intro as w Q h hok
  obtain ⟨hk, h⟩ := h
  unfold eT_newValue at h
  split at h
  · refine zx_body (by decide) (Or.inl ⟨rfl, rfl⟩) KnT.warm (Nat.le_of_ble_eq_true rfl) (fun Γ hl hQ G M => ?_)
    subst hl
    subst hQ
    exact zv_pick [0, 1, 2, 3] rfl (cpT_newValue_0 G M S hk (hok _ List.mem_cons_self) (hok _ (List.mem_cons_of_mem _ (List.mem_cons_self))) (hok _ (List.mem_cons_of_mem _ (List.mem_cons_of_mem _ (List.mem_cons_self)))) h)
  · exact h.elim
theorem gT_truth {d : Nat} {D : TD} {B0 : Nat} {l : Launch} {lim : Nat × Nat} (S : SdT d D B0 l lim) : ∀ (as : List ZA) (w : TW) (Q : ZRes → TW → Prop), (0 ≤ d ∧ eT_truth (wpT d) as w Q) → zoks as → ZMX l (KnT D B0) (ZT D B0) yX1_truth (Cond.code yX1_truth cX1_truth 2 (some .int)) (d + 1) lim (cond false as (ar (D.x + 1) :: as)) w Q := by
  intro as w Q h hok
  obtain ⟨hk, h⟩ := h
  unfold eT_truth at h
  split at h
  · refine zx_body (by decide) (Or.inl ⟨rfl, rfl⟩) KnT.warm (Nat.le_of_ble_eq_true rfl) (fun Γ hl hQ G M => ?_)
    subst hl
    subst hQ
    exact zv_pick [0, 1] rfl (cpT_truth_0 G M S hk (hok _ List.mem_cons_self) h)
  · exact h.elim
theorem gT_letters {d : Nat} {D : TD} {B0 : Nat} {l : Launch} {lim : Nat × Nat} (S : SdT d D B0 l lim) : ∀ (as : List ZA) (w : TW) (Q : ZRes → TW → Prop), (2 ≤ d ∧ eT_letters (wpT d) as w Q) → zoks as → ZMX l (KnT D B0) (ZT D B0) yX1_letters (Cond.code yX1_letters cX1_letters 7 (some .int)) (d + 1) lim (cond false as (ar (D.x + 1) :: as)) w Q := by
  intro as w Q h hok
  obtain ⟨hk, h⟩ := h
  unfold eT_letters at h
  split at h
  · refine zx_body (by decide) (Or.inl ⟨rfl, rfl⟩) KnT.warm (Nat.le_of_ble_eq_true rfl) (fun Γ hl hQ G M => ?_)
    subst hl
    subst hQ
    exact zv_pick [0, 1] rfl (cpT_letters_0 G M S hk (hok _ List.mem_cons_self) h)
  · exact h.elim
theorem gT_nothing {d : Nat} {D : TD} {B0 : Nat} {l : Launch} {lim : Nat × Nat} (S : SdT d D B0 l lim) : ∀ (as : List ZA) (w : TW) (Q : ZRes → TW → Prop), (0 ≤ d ∧ eT_nothing (wpT d) as w Q) → zoks as → ZMX l (KnT D B0) (ZT D B0) yX1_nothing (Cond.code yX1_nothing cX1_nothing 1 (some .int)) (d + 1) lim (cond false as (ar (D.x + 1) :: as)) w Q := by
  intro as w Q h hok
  obtain ⟨hk, h⟩ := h
  unfold eT_nothing at h
  split at h
  · refine zx_body (by decide) (Or.inl ⟨rfl, rfl⟩) KnT.warm (Nat.le_of_ble_eq_true rfl) (fun Γ hl hQ G M => ?_)
    subst hl
    subst hQ
    exact zv_pick [0] rfl (cpT_nothing_0 G M S hk h)
  · exact h.elim
theorem gT_make {d : Nat} {D : TD} {B0 : Nat} {l : Launch} {lim : Nat × Nat} (S : SdT d D B0 l lim) : ∀ (as : List ZA) (w : TW) (Q : ZRes → TW → Prop), (2 ≤ d ∧ eT_make (wpT d) as w Q) → zoks as → ZMX l (KnT D B0) (ZT D B0) yX1_make (Cond.code yX1_make cX1_make 9 (some .int)) (d + 1) lim (cond false as (ar (D.x + 1) :: as)) w Q := by
  intro as w Q h hok
  obtain ⟨hk, h⟩ := h
  unfold eT_make at h
  split at h
  · refine zx_body (by decide) (Or.inl ⟨rfl, rfl⟩) KnT.warm (Nat.le_of_ble_eq_true rfl) (fun Γ hl hQ G M => ?_)
    subst hl
    subst hQ
    exact zv_pick [0, 1, 2, 3, 4, 5] rfl (cpT_make_0 G M S hk (hok _ List.mem_cons_self) (hok _ (List.mem_cons_of_mem _ (List.mem_cons_self))) (hok _ (List.mem_cons_of_mem _ (List.mem_cons_of_mem _ (List.mem_cons_self)))) (hok _ (List.mem_cons_of_mem _ (List.mem_cons_of_mem _ (List.mem_cons_of_mem _ (List.mem_cons_self))))) (hok _ (List.mem_cons_of_mem _ (List.mem_cons_of_mem _ (List.mem_cons_of_mem _ (List.mem_cons_of_mem _ (List.mem_cons_self)))))) h)
  · exact h.elim
theorem gT_isValue {d : Nat} {D : TD} {B0 : Nat} {l : Launch} {lim : Nat × Nat} (S : SdT d D B0 l lim) : ∀ (as : List ZA) (w : TW) (Q : ZRes → TW → Prop), (1 ≤ d ∧ eT_isValue (wpT d) as w Q) → zoks as → ZMX l (KnT D B0) (ZT D B0) yX1_isValue (Cond.code yX1_isValue cX1_isValue 2 (some .boolean)) (d + 1) lim (cond false as (ar (D.x + 1) :: as)) w Q := by
  intro as w Q h hok
  obtain ⟨hk, h⟩ := h
  unfold eT_isValue at h
  split at h
  · refine zx_body (by decide) (Or.inl ⟨rfl, rfl⟩) KnT.warm (Nat.le_of_ble_eq_true rfl) (fun Γ hl hQ G M => ?_)
    subst hl
    subst hQ
    exact zv_pick [0, 1] rfl (cpT_isValue_0 G M S hk (hok _ List.mem_cons_self) h)
  · exact h.elim
theorem gT_isOfSort {d : Nat} {D : TD} {B0 : Nat} {l : Launch} {lim : Nat × Nat} (S : SdT d D B0 l lim) : ∀ (as : List ZA) (w : TW) (Q : ZRes → TW → Prop), (0 ≤ d ∧ eT_isOfSort (wpT d) as w Q) → zoks as → ZMX l (KnT D B0) (ZT D B0) yX1_isOfSort (Cond.code yX1_isOfSort cX1_isOfSort 3 (some .boolean)) (d + 1) lim (cond false as (ar (D.x + 1) :: as)) w Q := by
  intro as w Q h hok
  obtain ⟨hk, h⟩ := h
  unfold eT_isOfSort at h
  split at h
  · refine zx_body (by decide) (Or.inl ⟨rfl, rfl⟩) KnT.warm (Nat.le_of_ble_eq_true rfl) (fun Γ hl hQ G M => ?_)
    subst hl
    subst hQ
    exact zv_pick [0, 1, 2] rfl (cpT_isOfSort_0 G M S hk (hok _ List.mem_cons_self) (hok _ (List.mem_cons_of_mem _ (List.mem_cons_self))) h)
  · exact h.elim
theorem gT_value {d : Nat} {D : TD} {B0 : Nat} {l : Launch} {lim : Nat × Nat} (S : SdT d D B0 l lim) : ∀ (as : List ZA) (w : TW) (Q : ZRes → TW → Prop), (2 ≤ d ∧ eT_value (wpT d) as w Q) → zoks as → ZMX l (KnT D B0) (ZT D B0) yX1_value (Cond.code yX1_value cX1_value 3 (some .int)) (d + 1) lim (cond false as (ar (D.x + 1) :: as)) w Q := by
  intro as w Q h hok
  obtain ⟨hk, h⟩ := h
  unfold eT_value at h
  split at h
  · refine zx_body (by decide) (Or.inl ⟨rfl, rfl⟩) KnT.warm (Nat.le_of_ble_eq_true rfl) (fun Γ hl hQ G M => ?_)
    subst hl
    subst hQ
    exact zv_pick [0, 1, 2] rfl (cpT_value_0 G M S hk (hok _ List.mem_cons_self) (hok _ (List.mem_cons_of_mem _ (List.mem_cons_self))) h)
  · exact h.elim
theorem gT_alike {d : Nat} {D : TD} {B0 : Nat} {l : Launch} {lim : Nat × Nat} (S : SdT d D B0 l lim) : ∀ (as : List ZA) (w : TW) (Q : ZRes → TW → Prop), (2 ≤ d ∧ eT_alike (wpT d) as w Q) → zoks as → ZMX l (KnT D B0) (ZT D B0) yX1_alike (Cond.code yX1_alike cX1_alike 7 (some .int)) (d + 1) lim (cond false as (ar (D.x + 1) :: as)) w Q := by
  intro as w Q h hok
  obtain ⟨hk, h⟩ := h
  unfold eT_alike at h
  split at h
  · refine zx_body (by decide) (Or.inl ⟨rfl, rfl⟩) KnT.warm (Nat.le_of_ble_eq_true rfl) (fun Γ hl hQ G M => ?_)
    subst hl
    subst hQ
    exact zv_pick [0, 1, 2] rfl (cpT_alike_0 G M S hk (hok _ List.mem_cons_self) (hok _ (List.mem_cons_of_mem _ (List.mem_cons_self))) h)
  · exact h.elim
theorem gT_sort {d : Nat} {D : TD} {B0 : Nat} {l : Launch} {lim : Nat × Nat} (S : SdT d D B0 l lim) : ∀ (as : List ZA) (w : TW) (Q : ZRes → TW → Prop), (0 ≤ d ∧ eT_sort (wpT d) as w Q) → zoks as → ZMX l (KnT D B0) (ZT D B0) yX1_sort (Cond.code yX1_sort cX1_sort 5 (some .int)) (d + 1) lim (cond false as (ar (D.x + 1) :: as)) w Q := by
  intro as w Q h hok
  obtain ⟨hk, h⟩ := h
  unfold eT_sort at h
  split at h
  · refine zx_body (by decide) (Or.inl ⟨rfl, rfl⟩) KnT.warm (Nat.le_of_ble_eq_true rfl) (fun Γ hl hQ G M => ?_)
    subst hl
    subst hQ
    exact zv_pick [0, 1, 2, 3, 4] rfl (cpT_sort_0 G M S hk (hok _ List.mem_cons_self) (hok _ (List.mem_cons_of_mem _ (List.mem_cons_self))) (hok _ (List.mem_cons_of_mem _ (List.mem_cons_of_mem _ (List.mem_cons_self)))) (hok _ (List.mem_cons_of_mem _ (List.mem_cons_of_mem _ (List.mem_cons_of_mem _ (List.mem_cons_self))))) h)
  · exact h.elim
theorem gT_runs {d : Nat} {D : TD} {B0 : Nat} {l : Launch} {lim : Nat × Nat} (S : SdT d D B0 l lim) : ∀ (as : List ZA) (w : TW) (Q : ZRes → TW → Prop), (2 ≤ d ∧ eT_runs (wpT d) as w Q) → zoks as → ZMX l (KnT D B0) (ZT D B0) yX1_runs (Cond.code yX1_runs cX1_runs 11 (some .int)) (d + 1) lim (cond false as (ar (D.x + 1) :: as)) w Q := by
  intro as w Q h hok
  obtain ⟨hk, h⟩ := h
  unfold eT_runs at h
  split at h
  · refine zx_body (by decide) (Or.inl ⟨rfl, rfl⟩) KnT.warm (Nat.le_of_ble_eq_true rfl) (fun Γ hl hQ G M => ?_)
    subst hl
    subst hQ
    exact zv_pick [0, 1, 2, 3, 4, 5] rfl (cpT_runs_0 G M S hk (hok _ List.mem_cons_self) (hok _ (List.mem_cons_of_mem _ (List.mem_cons_self))) (hok _ (List.mem_cons_of_mem _ (List.mem_cons_of_mem _ (List.mem_cons_self)))) (hok _ (List.mem_cons_of_mem _ (List.mem_cons_of_mem _ (List.mem_cons_of_mem _ (List.mem_cons_self))))) (hok _ (List.mem_cons_of_mem _ (List.mem_cons_of_mem _ (List.mem_cons_of_mem _ (List.mem_cons_of_mem _ (List.mem_cons_self)))))) h)
  · exact h.elim
theorem gT_byTree {d : Nat} {D : TD} {B0 : Nat} {l : Launch} {lim : Nat × Nat} (S : SdT d D B0 l lim) : ∀ (as : List ZA) (w : TW) (Q : ZRes → TW → Prop), (0 ≤ d ∧ eT_byTree (wpT d) as w Q) → zoks as → ZMX l (KnT D B0) (ZT D B0) yX1_byTree (Cond.code yX1_byTree cX1_byTree 6 (some .int)) (d + 1) lim (cond false as (ar (D.x + 1) :: as)) w Q := by
  intro as w Q h hok
  obtain ⟨hk, h⟩ := h
  unfold eT_byTree at h
  split at h
  · refine zx_body (by decide) (Or.inl ⟨rfl, rfl⟩) KnT.warm (Nat.le_of_ble_eq_true rfl) (fun Γ hl hQ G M => ?_)
    subst hl
    subst hQ
    exact zv_pick [0, 1] rfl (cpT_byTree_0 G M S hk (hok _ List.mem_cons_self) h)
  · exact h.elim
theorem gT_binds0 {d : Nat} {D : TD} {B0 : Nat} {l : Launch} {lim : Nat × Nat} (S : SdT d D B0 l lim) : ∀ (as : List ZA) (w : TW) (Q : ZRes → TW → Prop), (0 ≤ d ∧ eT_binds0 (wpT d) as w Q) → zoks as → ZMX l (KnT D B0) (ZT D B0) yX1_binds0 (Cond.code yX1_binds0 cX1_binds0 5 (some .boolean)) (d + 1) lim (cond false as (ar (D.x + 1) :: as)) w Q := by
  intro as w Q h hok
  obtain ⟨hk, h⟩ := h
  unfold eT_binds0 at h
  split at h
  · refine zx_body (by decide) (Or.inl ⟨rfl, rfl⟩) KnT.warm (Nat.le_of_ble_eq_true rfl) (fun Γ hl hQ G M => ?_)
    subst hl
    subst hQ
    exact zv_pick [0, 1, 2] rfl (cpT_binds0_0 G M S hk (hok _ List.mem_cons_self) (hok _ (List.mem_cons_of_mem _ (List.mem_cons_self))) h)
  · exact h.elim
theorem gT_fitsHere {d : Nat} {D : TD} {B0 : Nat} {l : Launch} {lim : Nat × Nat} (S : SdT d D B0 l lim) : ∀ (as : List ZA) (w : TW) (Q : ZRes → TW → Prop), (0 ≤ d ∧ eT_fitsHere (wpT d) as w Q) → zoks as → ZMX l (KnT D B0) (ZT D B0) yX1_fitsHere (Cond.code yX1_fitsHere cX1_fitsHere 3 (some .boolean)) (d + 1) lim (cond false as (ar (D.x + 1) :: as)) w Q := by
  intro as w Q h hok
  obtain ⟨hk, h⟩ := h
  unfold eT_fitsHere at h
  split at h
  · refine zx_body (by decide) (Or.inl ⟨rfl, rfl⟩) KnT.warm (Nat.le_of_ble_eq_true rfl) (fun Γ hl hQ G M => ?_)
    subst hl
    subst hQ
    exact zv_pick [0, 1, 2] rfl (cpT_fitsHere_0 G M S hk (hok _ List.mem_cons_self) (hok _ (List.mem_cons_of_mem _ (List.mem_cons_self))) h)
  · exact h.elim
theorem gT_guarded {d : Nat} {D : TD} {B0 : Nat} {l : Launch} {lim : Nat × Nat} (S : SdT d D B0 l lim) : ∀ (as : List ZA) (w : TW) (Q : ZRes → TW → Prop), (2 ≤ d ∧ eT_guarded (wpT d) as w Q) → zoks as → ZMX l (KnT D B0) (ZT D B0) yX1_guarded (Cond.code yX1_guarded cX1_guarded 5 (some .int)) (d + 1) lim (cond false as (ar (D.x + 1) :: as)) w Q := by
  intro as w Q h hok
  obtain ⟨hk, h⟩ := h
  unfold eT_guarded at h
  split at h
  · refine zx_body (by decide) (Or.inl ⟨rfl, rfl⟩) KnT.warm (Nat.le_of_ble_eq_true rfl) (fun Γ hl hQ G M => ?_)
    subst hl
    subst hQ
    exact zv_pick [0, 1] rfl (cpT_guarded_0 G M S hk (hok _ List.mem_cons_self) h)
  · exact h.elim
theorem gT_isThrown {d : Nat} {D : TD} {B0 : Nat} {l : Launch} {lim : Nat × Nat} (S : SdT d D B0 l lim) : ∀ (as : List ZA) (w : TW) (Q : ZRes → TW → Prop), (1 ≤ d ∧ eT_isThrown (wpT d) as w Q) → zoks as → ZMX l (KnT D B0) (ZT D B0) yX1_isThrown (Cond.code yX1_isThrown cX1_isThrown 4 (some .boolean)) (d + 1) lim (cond false as (ar (D.x + 1) :: as)) w Q := by
  intro as w Q h hok
  obtain ⟨hk, h⟩ := h
  unfold eT_isThrown at h
  split at h
  · refine zx_body (by decide) (Or.inl ⟨rfl, rfl⟩) KnT.warm (Nat.le_of_ble_eq_true rfl) (fun Γ hl hQ G M => ?_)
    subst hl
    subst hQ
    exact zv_pick [0, 1, 2] rfl (cpT_isThrown_0 G M S hk (hok _ List.mem_cons_self) (hok _ (List.mem_cons_of_mem _ (List.mem_cons_self))) h)
  · exact h.elim
theorem gT_term {d : Nat} {D : TD} {B0 : Nat} {l : Launch} {lim : Nat × Nat} (S : SdT d D B0 l lim) : ∀ (as : List ZA) (w : TW) (Q : ZRes → TW → Prop), (0 ≤ d ∧ eT_term (wpT d) as w Q) → zoks as → ZMX l (KnT D B0) (ZT D B0) yX1_term (Cond.code yX1_term cX1_term 2 (some .int)) (d + 1) lim (cond false as (ar (D.x + 1) :: as)) w Q := by
  intro as w Q h hok
  obtain ⟨hk, h⟩ := h
  unfold eT_term at h
  split at h
  · refine zx_body (by decide) (Or.inl ⟨rfl, rfl⟩) KnT.warm (Nat.le_of_ble_eq_true rfl) (fun Γ hl hQ G M => ?_)
    subst hl
    subst hQ
    exact zv_pick [0, 1] rfl (cpT_term_0 G M S hk (hok _ List.mem_cons_self) h)
  · exact h.elim
theorem gT_sum {d : Nat} {D : TD} {B0 : Nat} {l : Launch} {lim : Nat × Nat} (S : SdT d D B0 l lim) : ∀ (as : List ZA) (w : TW) (Q : ZRes → TW → Prop), (1 ≤ d ∧ eT_sum (wpT d) as w Q) → zoks as → ZMX l (KnT D B0) (ZT D B0) yX1_sum (Cond.code yX1_sum cX1_sum 6 (some .int)) (d + 1) lim (cond false as (ar (D.x + 1) :: as)) w Q := by
  intro as w Q h hok
  obtain ⟨hk, h⟩ := h
  unfold eT_sum at h
  split at h
  · refine zx_body (by decide) (Or.inl ⟨rfl, rfl⟩) KnT.warm (Nat.le_of_ble_eq_true rfl) (fun Γ hl hQ G M => ?_)
    subst hl
    subst hQ
    exact zv_pick [0, 1, 2] rfl (cpT_sum_0 G M S hk (hok _ List.mem_cons_self) (hok _ (List.mem_cons_of_mem _ (List.mem_cons_self))) h)
  · exact h.elim
theorem gT_standing {d : Nat} {D : TD} {B0 : Nat} {l : Launch} {lim : Nat × Nat} (S : SdT d D B0 l lim) : ∀ (as : List ZA) (w : TW) (Q : ZRes → TW → Prop), (0 ≤ d ∧ eT_standing (wpT d) as w Q) → zoks as → ZMX l (KnT D B0) (ZT D B0) yX1_standing (Cond.code yX1_standing cX1_standing 6 (some .int)) (d + 1) lim (cond false as (ar (D.x + 1) :: as)) w Q := by
  intro as w Q h hok
  obtain ⟨hk, h⟩ := h
  unfold eT_standing at h
  split at h
  · refine zx_body (by decide) (Or.inl ⟨rfl, rfl⟩) KnT.warm (Nat.le_of_ble_eq_true rfl) (fun Γ hl hQ G M => ?_)
    subst hl
    subst hQ
    exact zv_pick [0, 1] rfl (cpT_standing_0 G M S hk (hok _ List.mem_cons_self) h)
  · exact h.elim
theorem gT_isBranch {d : Nat} {D : TD} {B0 : Nat} {l : Launch} {lim : Nat × Nat} (S : SdT d D B0 l lim) : ∀ (as : List ZA) (w : TW) (Q : ZRes → TW → Prop), (0 ≤ d ∧ eT_isBranch (wpT d) as w Q) → zoks as → ZMX l (KnT D B0) (ZT D B0) yX1_isBranch (Cond.code yX1_isBranch cX1_isBranch 4 (some .boolean)) (d + 1) lim (cond false as (ar (D.x + 1) :: as)) w Q := by
  intro as w Q h hok
  obtain ⟨hk, h⟩ := h
  unfold eT_isBranch at h
  split at h
  · refine zx_body (by decide) (Or.inl ⟨rfl, rfl⟩) KnT.warm (Nat.le_of_ble_eq_true rfl) (fun Γ hl hQ G M => ?_)
    subst hl
    subst hQ
    exact zv_pick [0, 1, 2, 3] rfl (cpT_isBranch_0 G M S hk (hok _ List.mem_cons_self) (hok _ (List.mem_cons_of_mem _ (List.mem_cons_self))) (hok _ (List.mem_cons_of_mem _ (List.mem_cons_of_mem _ (List.mem_cons_self)))) h)
  · exact h.elim
theorem gT_byRules {d : Nat} {D : TD} {B0 : Nat} {l : Launch} {lim : Nat × Nat} (S : SdT d D B0 l lim) : ∀ (as : List ZA) (w : TW) (Q : ZRes → TW → Prop), (0 ≤ d ∧ eT_byRules (wpT d) as w Q) → zoks as → ZMX l (KnT D B0) (ZT D B0) yX1_byRules (Cond.code yX1_byRules cX1_byRules 5 (some .int)) (d + 1) lim (cond false as (ar (D.x + 1) :: as)) w Q := by
  intro as w Q h hok
  obtain ⟨hk, h⟩ := h
  unfold eT_byRules at h
  split at h
  · refine zx_body (by decide) (Or.inl ⟨rfl, rfl⟩) KnT.warm (Nat.le_of_ble_eq_true rfl) (fun Γ hl hQ G M => ?_)
    subst hl
    subst hQ
    exact zv_pick [0, 1] rfl (cpT_byRules_0 G M S hk (hok _ List.mem_cons_self) h)
  · exact h.elim
theorem gT_plain {d : Nat} {D : TD} {B0 : Nat} {l : Launch} {lim : Nat × Nat} (S : SdT d D B0 l lim) : ∀ (as : List ZA) (w : TW) (Q : ZRes → TW → Prop), (0 ≤ d ∧ eT_plain (wpT d) as w Q) → zoks as → ZMX l (KnT D B0) (ZT D B0) yX1_plain (Cond.code yX1_plain cX1_plain 5 (some .int)) (d + 1) lim (cond false as (ar (D.x + 1) :: as)) w Q := by
  intro as w Q h hok
  obtain ⟨hk, h⟩ := h
  unfold eT_plain at h
  split at h
  · refine zx_body (by decide) (Or.inl ⟨rfl, rfl⟩) KnT.warm (Nat.le_of_ble_eq_true rfl) (fun Γ hl hQ G M => ?_)
    subst hl
    subst hQ
    exact zv_pick [0, 1, 2, 3, 4] rfl (cpT_plain_0 G M S hk (hok _ List.mem_cons_self) (hok _ (List.mem_cons_of_mem _ (List.mem_cons_self))) (hok _ (List.mem_cons_of_mem _ (List.mem_cons_of_mem _ (List.mem_cons_self)))) (hok _ (List.mem_cons_of_mem _ (List.mem_cons_of_mem _ (List.mem_cons_of_mem _ (List.mem_cons_self))))) h)
  · exact h.elim
theorem gT_told {d : Nat} {D : TD} {B0 : Nat} {l : Launch} {lim : Nat × Nat} (S : SdT d D B0 l lim) : ∀ (as : List ZA) (w : TW) (Q : ZRes → TW → Prop), (1 ≤ d ∧ eT_told (wpT d) as w Q) → zoks as → ZMX l (KnT D B0) (ZT D B0) yX1_told (Cond.code yX1_told cX1_told 2 (some .int)) (d + 1) lim (cond false as (ar (D.x + 1) :: as)) w Q := by
  intro as w Q h hok
  obtain ⟨hk, h⟩ := h
  unfold eT_told at h
  split at h
  · refine zx_body (by decide) (Or.inl ⟨rfl, rfl⟩) KnT.warm (Nat.le_of_ble_eq_true rfl) (fun Γ hl hQ G M => ?_)
    subst hl
    subst hQ
    exact zv_pick [0, 1] rfl (cpT_told_0 G M S hk (hok _ List.mem_cons_self) h)
  · exact h.elim
theorem gT_guard {d : Nat} {D : TD} {B0 : Nat} {l : Launch} {lim : Nat × Nat} (S : SdT d D B0 l lim) : ∀ (as : List ZA) (w : TW) (Q : ZRes → TW → Prop), (1 ≤ d ∧ eT_guard (wpT d) as w Q) → zoks as → ZMX l (KnT D B0) (ZT D B0) yX1_guard (Cond.code yX1_guard cX1_guard 2 (some .int)) (d + 1) lim (cond false as (ar (D.x + 1) :: as)) w Q := by
  intro as w Q h hok
  obtain ⟨hk, h⟩ := h
  unfold eT_guard at h
  split at h
  · refine zx_body (by decide) (Or.inl ⟨rfl, rfl⟩) KnT.warm (Nat.le_of_ble_eq_true rfl) (fun Γ hl hQ G M => ?_)
    subst hl
    subst hQ
    exact zv_pick [0, 1] rfl (cpT_guard_0 G M S hk (hok _ List.mem_cons_self) h)
  · exact h.elim
theorem gT_bound {d : Nat} {D : TD} {B0 : Nat} {l : Launch} {lim : Nat × Nat} (S : SdT d D B0 l lim) : ∀ (as : List ZA) (w : TW) (Q : ZRes → TW → Prop), (1 ≤ d ∧ eT_bound (wpT d) as w Q) → zoks as → ZMX l (KnT D B0) (ZT D B0) yX1_bound (Cond.code yX1_bound cX1_bound 2 (some .int)) (d + 1) lim (cond false as (ar (D.x + 1) :: as)) w Q := by
  intro as w Q h hok
  obtain ⟨hk, h⟩ := h
  unfold eT_bound at h
  split at h
  · refine zx_body (by decide) (Or.inl ⟨rfl, rfl⟩) KnT.warm (Nat.le_of_ble_eq_true rfl) (fun Γ hl hQ G M => ?_)
    subst hl
    subst hQ
    exact zv_pick [0, 1] rfl (cpT_bound_0 G M S hk (hok _ List.mem_cons_self) h)
  · exact h.elim
theorem gT_count {d : Nat} {D : TD} {B0 : Nat} {l : Launch} {lim : Nat × Nat} (S : SdT d D B0 l lim) : ∀ (as : List ZA) (w : TW) (Q : ZRes → TW → Prop), (0 ≤ d ∧ eT_count (wpT d) as w Q) → zoks as → ZMX l (KnT D B0) (ZT D B0) yX1_count (Cond.code yX1_count cX1_count 2 (some .int)) (d + 1) lim (cond false as (ar (D.x + 1) :: as)) w Q := by
  intro as w Q h hok
  obtain ⟨hk, h⟩ := h
  unfold eT_count at h
  split at h
  · refine zx_body (by decide) (Or.inl ⟨rfl, rfl⟩) KnT.warm (Nat.le_of_ble_eq_true rfl) (fun Γ hl hQ G M => ?_)
    subst hl
    subst hQ
    exact zv_pick [0, 1] rfl (cpT_count_0 G M S hk (hok _ List.mem_cons_self) h)
  · exact h.elim
theorem snd_T {D : TD} {B0 : Nat} {l : Launch} {lim : Nat × Nat} : ∀ d, SdT d D B0 l lim := by
  intro d
  induction d with
  | zero => intro y e he as w Q h; exact h.elim
  | succ d S =>
    have F : zF2 (fun (e : Nat × ((Nat → List ZA → TW → (ZRes → TW → Prop) → Prop) → List ZA → TW → (ZRes → TW → Prop) → Prop)) (m : MethodName × Cond × Bool) => ∀ (as : List ZA) (w : TW) (Q : ZRes → TW → Prop), (e.1 ≤ d ∧ e.2 (wpT d) as w Q) → zoks as → ZMX l (KnT D B0) (ZT D B0) m.1 m.2.1 (d + 1) lim (cond m.2.2 as (ar (D.x + 1) :: as)) w Q) tabT mtT := ⟨gT_feed S, gT_in S, gT_read S, gT_beginTape S, gT_next S, gT_byteAt S, gT_isSmall S, gT_name S, gT_isFigure S, gT_wordOf S, gT_isWord S, gT_readKind S, gT_stop S, gT_fails S, gT_kindOf S, gT_readUnder S, gT_isSealed S, gT_takes S, gT_isSign S, gT_readSort S, gT_must S, gT_readFunction S, gT_functionOf S, gT_readRule S, gT_readPattern S, gT_begins S, gT_isOf S, gT_newPattern S, gT_nameOf S, gT_binds S, gT_range S, gT_number S, gT_opens S, gT_wanted S, gT_readAs S, gT_comesInto S, gT_goesOn S, gT_endsAlternative S, gT_readGuard S, gT_readSum S, gT_readTerm S, gT_boundName S, gT_readAnswer S, gT_judge S, gT_judgeAnswer S, gT_makes S, gT_layRows S, gT_layRow S, gT_waitAll S, gT_wait0 S, gT_nextPattern S, gT_notes S, gT_settle S, gT_layKnown S, gT_sift S, gT_stands S, gT_asksAt S, gT_isLeft S, gT_layBranches S, gT_oneBranch S, gT_cut S, gT_wants S, gT_parts S, gT_layAhead S, gT_fault S, gT_add S, gT_remake S, gT_isFunction S, gT_moved S, gT_kind S, gT_isKind S, gT_kindNamed S, gT_function S, gT_depth S, gT_node S, gT_branch S, gT_missing S, gT_unreached S, gT_whole S, gT_newValue S, gT_truth S, gT_letters S, gT_nothing S, gT_make S, gT_isValue S, gT_isOfSort S, gT_value S, gT_alike S, gT_sort S, gT_runs S, gT_byTree S, gT_binds0 S, gT_fitsHere S, gT_guarded S, gT_isThrown S, gT_term S, gT_sum S, gT_standing S, gT_isBranch S, gT_byRules S, gT_plain S, gT_told S, gT_guard S, gT_bound S, gT_count S, trivial⟩
    intro y e he as w Q h hok
    obtain ⟨a, ha, hP⟩ := zF2_get F y e he
    refine hP as w Q ?_ hok
    unfold wpT at h
    rw [ha] at h
    exact h
end ZST
