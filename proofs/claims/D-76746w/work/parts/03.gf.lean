/-! GF: a judgement led by a pure function. 'GF X M F t pc lv st': if F is some (r, t'), the machine goes from the state t at pc (locals lv, stack st) to the end that M names for (r, t'). F none: nothing is said. -/
abbrev gCx : Type := Program × Launch × Env × Room × State × MethodId × Array Value × List Frame × Method × Code
/-- locals' size, cells and slots of a state, the heap's picture, the cells that may change, the end -/
abbrev gMd (S α : Type) : Type := Nat × (S → Nat) × (S → Nat) × (S → Heap → Prop) × (Nat → Prop) × (α → S → Nat → Nat → State → Prop)
def gW (X : gCx) (H : Heap) (locs : List Loc) (cells slots : Nat) (Q : State → Prop) (g : JFrame) : Prop := match X with
  | (p, l, e, R, s, m, args, below, meth, c) => W p l e R s m args below meth c H locs cells slots Q g
def gRm (X : gCx) : Room := X.2.2.2.1
def gSt (X : gCx) : State := X.2.2.2.2.1
def gMe (X : gCx) : MethodId := X.2.2.2.2.2.1
def gOk (X : gCx) (own : String) (cc : ByteArray) : Prop := match X with
  | (p, _, _, _, s, m, args, _, meth, c) => p.tables.exec = Jvm.exec ∧ c.code = cc ∧ s.vm.findClass own = some m.cls ∧ (∀ w ∈ lw_all, w.before args s = true) ∧ meth.locks = false
def gHas (ls : Array Slot) (nL : Nat) (lv : List (Nat × Value)) : Prop := lv_has ls nL lv ∧ ∀ q ∈ lv, q.2.category = 1
def GF {S α : Type} (X : gCx) (M : gMd S α) (F : Option (α × S)) (t : S) (pc : Nat) (lv : List (Nat × Value)) (st : List Value) : Prop :=
  ∀ (r : α) (t' : S), F = some (r, t') → (M.2.1 t ≤ M.2.1 t' ∧ M.2.2.1 t ≤ M.2.2.1 t') ∧
    ∀ (mc ms cells slots : Nat) (H : Heap) (locs : List Loc) (ls : Array Slot), mc ≤ (gRm X).cells → ms ≤ (gRm X).slots → cells + M.2.1 t' ≤ mc + M.2.1 t → slots + M.2.2.1 t' ≤ ms + M.2.2.1 t →
      M.2.2.2.1 t H → va_S M.2.2.2.2.1 (gSt X).heap H locs → gHas ls M.1 lv → gW X H locs cells slots (M.2.2.2.2.2 r t' mc ms) (F0 (gMe X) pc ls st)
/-- one name for a computed word -/
def letv {α β : Sort _} (x : α) (f : α → β) : β := f x
/-- a join: the code behind it, once -/
def jn {α β : Sort _} (f : α) (g : α → β) : β := g f
/-- behind a call -/
def ob {α β S T : Type} (x : Option (α × S)) (k : α → S → Option (β × T)) : Option (β × T) := match x with
  | none => none
  | some (r, t) => k r t
theorem ob_some {α β S T : Type} (r : α) (t : S) (k : α → S → Option (β × T)) : ob (some (r, t)) k = k r t := rfl
theorem ob_none {α β S T : Type} (k : α → S → Option (β × T)) : ob none k = none := rfl
/-- a guard: an index in its range and the like -/
def gd {β : Type} (c : Prop) [Decidable c] (x : Option β) : Option β := if c then x else none
theorem gd_t {β : Type} {c : Prop} [Decidable c] (h : c) (x : Option β) : gd c x = x := if_pos h
/-- a value read, or nothing -/
def rv {α β : Type} (x : Option α) (k : α → Option β) : Option β := match x with
  | none => none
  | some r => k r
theorem rv_some {α β : Type} (r : α) (k : α → Option β) : rv (some r) k = k r := rfl
def lget : List (Nat × Value) → Nat → Option Value
  | [], _ => none
  | (j, w) :: r, i => match Nat.beq i j with
    | true => some w
    | false => lget r i
def lrem (i : Nat) : List (Nat × Value) → List (Nat × Value)
  | [] => []
  | (j, w) :: r => match Nat.beq i j with
    | true => lrem i r
    | false => (j, w) :: lrem i r
def lins (i : Nat) (v : Value) : List (Nat × Value) → List (Nat × Value)
  | [] => [(i, v)]
  | (j, w) :: r => match Nat.ble i j with
    | true => (i, v) :: (j, w) :: r
    | false => (j, w) :: lins i v r
def lput (i : Nat) (v : Value) (lv : List (Nat × Value)) : List (Nat × Value) := lins i v (lrem i lv)
theorem lget_mem {lv : List (Nat × Value)} {i : Nat} {v : Value} (h : lget lv i = some v) : (i, v) ∈ lv := by
  induction lv with
  | nil => simp [lget] at h
  | cons a r ih =>
    obtain ⟨j, w⟩ := a
    unfold lget at h
    cases hb : Nat.beq i j with
    | true =>
      rw [hb] at h
      simp only [Option.some.injEq] at h
      rw [Nat.eq_of_beq_eq_true hb, h]
      exact List.mem_cons_self
    | false =>
      rw [hb] at h
      exact List.mem_cons_of_mem _ (ih h)
theorem lrem_mem {lv : List (Nat × Value)} {i : Nat} {q : Nat × Value} (h : q ∈ lrem i lv) : q ∈ lv ∧ q.1 ≠ i := by
  induction lv with
  | nil => simp [lrem] at h
  | cons a r ih =>
    obtain ⟨j, w⟩ := a
    unfold lrem at h
    cases hb : Nat.beq i j with
    | true =>
      rw [hb] at h
      exact ⟨List.mem_cons_of_mem _ (ih h).1, (ih h).2⟩
    | false =>
      rw [hb] at h
      rcases List.mem_cons.mp h with h | h
      · rw [h]
        exact ⟨List.mem_cons_self, fun e => by rw [← e, Nat.beq_refl] at hb; cases hb⟩
      · exact ⟨List.mem_cons_of_mem _ (ih h).1, (ih h).2⟩
theorem lins_mem {lv : List (Nat × Value)} {i : Nat} {v : Value} {q : Nat × Value} (h : q ∈ lins i v lv) : q = (i, v) ∨ q ∈ lv := by
  induction lv with
  | nil => exact Or.inl (by simpa [lins] using h)
  | cons a r ih =>
    obtain ⟨j, w⟩ := a
    unfold lins at h
    cases hl : Nat.ble i j with
    | true =>
      rw [hl] at h
      rcases List.mem_cons.mp h with h | h
      · exact Or.inl h
      · exact Or.inr h
    | false =>
      rw [hl] at h
      rcases List.mem_cons.mp h with h | h
      · rw [h]; exact Or.inr List.mem_cons_self
      · rcases ih h with h | h
        · exact Or.inl h
        · exact Or.inr (List.mem_cons_of_mem _ h)
theorem lput_mem {lv : List (Nat × Value)} {i : Nat} {v : Value} {q : Nat × Value} (h : q ∈ lput i v lv) : q = (i, v) ∨ (q ∈ lv ∧ q.1 ≠ i) := (lins_mem h).elim Or.inl (fun h => Or.inr (lrem_mem h))
theorem gHas.get {ls : Array Slot} {nL i : Nat} {lv : List (Nat × Value)} {v : Value} (h : gHas ls nL lv) (hl : lget lv i = some v) : ls[i]? = some (.val v) := h.1.2.2 (i, v) (lget_mem hl)
theorem gHas.sub {ls : Array Slot} {nL : Nat} {lv lv' : List (Nat × Value)} (h : gHas ls nL lv) (ks : List Nat) (hl : lv_pick lv ks = lv') : gHas ls nL lv' := by
  refine ⟨lv_sub h.1 ks hl, fun q hq => ?_⟩
  subst hl
  obtain ⟨k, -, hk⟩ := List.mem_filterMap.mp hq
  exact h.2 q (List.mem_of_getElem? hk)
/-- behind a store: what the kit's rows give, as lput has it -/
theorem gHas.put {ls ls' : Array Slot} {nL i : Nat} {lv l1 : List (Nat × Value)} {v : Value} (h : gHas ls nL lv) (hc : v.category = 1)
    (hl : (i, v) :: lv.filter (fun q => !(q.1 == i) && !(q.1 + 1 == i && q.2.category == 2)) = l1) (h' : lv_has ls' nL l1) : gHas ls' nL (lput i v lv) := by
  subst hl
  refine ⟨⟨h'.1, h'.2.1, fun q hq => ?_⟩, fun q hq => ?_⟩
  · refine h'.2.2 q ?_
    rcases lput_mem hq with e | ⟨h1, h2⟩
    · rw [e]; exact List.mem_cons_self
    · refine List.mem_cons_of_mem _ (List.mem_filter.mpr ⟨h1, ?_⟩)
      simp [h2, h.2 q h1]
  · rcases lput_mem hq with e | ⟨h1, -⟩
    · rw [e]; exact hc
    · exact h.2 q h1
section GFR
variable {S α : Type} {X : gCx} {M : gMd S α} {F A B : Option (α × S)} {t : S} {pc : Nat} {lv lv' : List (Nat × Value)} {st st' : List Value} {own : String} {cc : ByteArray}
/-- an instruction that moves the frame alone -/
theorem gf_go {pc' : Nat} (hh : ∀ (H : Heap) (locs : List Loc) (cells slots : Nat) (Q : State → Prop) (ls : Array Slot), gHas ls M.1 lv → (∀ ls' : Array Slot, gHas ls' M.1 lv' → gW X H locs cells slots Q (F0 (gMe X) pc' ls' st')) → gW X H locs cells slots Q (F0 (gMe X) pc ls st))
    (k : GF X M F t pc' lv' st') : GF X M F t pc lv st := by
  intro r t' h
  obtain ⟨h1, h2⟩ := k r t' h
  exact ⟨h1, fun mc ms cells slots H locs ls a b c d e f g => hh H locs cells slots _ ls g fun ls' g' => h2 mc ms cells slots H locs ls' a b c d e f g'⟩
theorem gf_none : GF X M (none : Option (α × S)) t pc lv st := fun _ _ h => by cases h
theorem gf_sub (ks : List Nat) (hl : lv_pick lv ks = lv') (k : GF X M F t pc lv' st) : GF X M F t pc lv st := by
  intro r t' h
  obtain ⟨h1, h2⟩ := k r t' h
  exact ⟨h1, fun mc ms cells slots H locs ls a b c d e f g => h2 mc ms cells slots H locs ls a b c d e f (g.sub ks hl)⟩
theorem gf_letv {f : Int32 → Option (α × S)} {x : Int32} (k : ∀ y : Int32, y = x → GF X M (f y) t pc lv (.int y :: st)) : GF X M (letv x f) t pc lv (.int x :: st) := k x rfl
theorem gf_jn {J : Type} (P : J → Prop) {f : J} {g : J → Option (α × S)} (hf : P f) (hg : ∀ j, P j → GF X M (g j) t pc lv st) : GF X M (jn f g) t pc lv st := hg f hf
theorem gf_gd {c : Prop} [Decidable c] (k : c → GF X M F t pc lv st) : GF X M (gd c F) t pc lv st := by
  by_cases h : c
  · rw [gd_t h]; exact k h
  · intro r t' e; unfold gd at e; rw [if_neg h] at e; cases e
end GFR
