/-! branches of the walk on what the state holds -/
section GCW
variable {α : Type} {X : gCx} {Y : cY} {M : cMd α} {A B : Option (α × cS)} {s : cS} {pc : Nat} {lv : List (Nat × Value)} {st : List Value}
theorem gc_ifp {c : Prop} [Decidable c] (ka : c → GC X Y M A s pc lv st) (kb : ¬ c → GC X Y M B s pc lv st) : GC X Y M (if c then A else B) s pc lv st := by
  by_cases h : c
  · rw [if_pos h]; exact ka h
  · rw [if_neg h]; exact kb h
theorem gn_letS {K : cS → Option (α × cS)} {e : cS} {hp : Nat} (k : ∀ t1 : cS, GC X Y M (K t1) t1 hp lv st) : GC X Y M (letv e K) e hp lv st := k e
end GCW
theorem gc_or2 {P Q c1 c2 : Prop} (hk : c1 ∨ c2) (h1 : c1 → P → Q) (h2 : c2 → P → Q) (k : P) : Q := hk.elim (fun h => h1 h k) (fun h => h2 h k)
theorem gc_or3 {P Q c1 c2 c3 : Prop} (hk : c1 ∨ c2 ∨ c3) (h1 : c1 → P → Q) (h2 : c2 → P → Q) (h3 : c3 → P → Q) (k : P) : Q := hk.elim (fun h => h1 h k) (fun h => gc_or2 h h2 h3 k)
theorem gc_or4 {P Q c1 c2 c3 c4 : Prop} (hk : c1 ∨ c2 ∨ c3 ∨ c4) (h1 : c1 → P → Q) (h2 : c2 → P → Q) (h3 : c3 → P → Q) (h4 : c4 → P → Q) (k : P) : Q := hk.elim (fun h => h1 h k) (fun h => gc_or3 h h2 h3 h4 k)
