/-! the tables' words as they hold all through, whatever the arguments -/
section ZKnown
def zK1 (U : State) : Prop := ∀ w ∈ lw_all, ∀ a : Array Value, w.before a U = true
theorem zK1.of {s : State} {a : Array Value} (h : ∀ w ∈ lw_all, w.before a s = true) : zK1 s := fun w hw a' => word_at (State.WarmedH.refl s) (lw_self w hw).2 (h w hw)
theorem zK1.warm {s U : State} (hW : s.WarmedH U.vm) (h : zK1 s) : zK1 U := fun w hw a' => word_at hW (lw_self w hw).2 (h w hw #[])
theorem lw_ini {y : MethodName} {b : ByteArray} {L : Nat} {r : Option FieldType} (h1 : Cond.code y b L r ∈ lw_all) (h2 : Cond.initialized y.cls ∈ lw_all) : ∀ (U : State) (a : Array Value), zK1 U → (Cond.code y b L r).before a U = true ∧ (Cond.initialized y.cls).before a U = true := fun U a h => ⟨h _ h1 a, h _ h2 a⟩
end ZKnown
