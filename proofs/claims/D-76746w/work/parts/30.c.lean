/-! THE COMPONENT's HEAP as functions. An object is a number (in the order of making); ad: its address. code of its class, length (arrays), ints by field, references by field, how many, slots. -/
abbrev cS : Type := (Nat → Nat) × (Nat → Nat) × (Nat → Nat → Int32) × (Nat → Nat → Option Nat) × Nat × Nat
abbrev cK (s : cS) : Nat → Nat := s.1
abbrev cL (s : cS) : Nat → Nat := s.2.1
abbrev cI (s : cS) : Nat → Nat → Int32 := s.2.2.1
abbrev cR (s : cS) : Nat → Nat → Option Nat := s.2.2.2.1
abbrev cn (s : cS) : Nat := s.2.2.2.2.1
abbrev cz (s : cS) : Nat := s.2.2.2.2.2
def sI (s : cS) (f a : Nat) (x : Int32) : cS := (cK s, cL s, fun g b => if g = f ∧ b = a then x else cI s g b, cR s, cn s, cz s)
def sR (s : cS) (f a : Nat) (x : Option Nat) : cS := (cK s, cL s, cI s, fun g b => if g = f ∧ b = a then x else cR s g b, cn s, cz s)
/-- a new object: code k, length len, w slots -/
def sN (s : cS) (k len w : Nat) : cS := (fun b => if b = cn s then k else cK s b, fun b => if b = cn s then len else cL s b, fun f b => if b = cn s then 0 else cI s f b, fun f b => if b = cn s then none else cR s f b, cn s + 1, cz s + w)
/-- the machine makes an exception of its own: c cells, w slots; it gets a number, of which nothing is known -/
def sX (s : cS) (c w : Nat) : cS := (fun b => if b = cn s then 99 else cK s b, cL s, cI s, fun f b => if b = cn s then none else cR s f b, cn s + c, cz s + w)
/-- int elements, reference elements -/
abbrev ei (j : Nat) : Nat := 1000 + 2 * j
abbrev er (j : Nat) : Nat := 1001 + 2 * j
abbrev ccl : List vw_C := [(RX0, TX0, 5), (RX1, TX1, 15), (RX2, TX2, 4), (RX3, TX3, 1), (RX5, TX5, 17), (RX7, TX7, 2), (RX8, TX8, 3), (RX9, TX9, 2), (RX10, TX10, 2), (RX11, TX11, 8), (RX13, TX13, 6), (RX14, TX14, 6), (RX15, TX15, 3), (RX16, TX16, 5), (RX17, TX17, 7), (RX18, TX18, 1), (RJ5, TJ5, 1)]
def cFs : List (List Nat) := [[1, 2, 3, 4, 5], [6, 7, 8, 9, 10, 11, 12, 13, 14, 15, 16, 17, 18, 19, 20], [21, 22, 23, 24], [25], [26, 27, 28, 29, 30, 31, 32, 33, 34, 35, 36, 37, 38, 39, 40, 41, 42], [43, 44], [45, 46, 47], [48, 49], [43, 50], [51, 52, 53, 54, 55, 56, 57, 58], [51, 52, 53, 54, 55, 56], [51, 52, 53, 54, 55, 56], [59, 60, 61], [62, 63, 64, 65, 66], [51, 52, 53, 54, 55, 56, 67], [68], [69]]
def cFl (ci k : Nat) : Nat := ((cFs[ci]?).getD []).getD k 0
def cRefs : List Nat := [1, 2, 3, 5, 6, 12, 14, 16, 20, 22, 23, 25, 30, 35, 37, 38, 39, 40, 41, 42, 45, 46, 47, 48, 49, 51, 52, 53, 54, 55, 62, 64]
/-- captured by a lambda: 900 an int, 901 a reference -/
def cRef (f : Nat) : Bool := if f < 900 then cRefs.contains f else if f < 1000 then Nat.beq f 901 else Nat.beq (f % 2) 1
def tv (ad : Nat → Nat) (v : Value) : Value := match v with
  | .ref a => .ref (ad a)
  | v => v
def vr (x : Option Nat) : Value := match x with
  | none => .null
  | some a => .ref a
def cVal (s : cS) (f a : Nat) : Value := if cRef f then vr (cR s f a) else .int (cI s f a)
/-- tables' numbers, classes of arrays and of lambdas by codes, what may change, the heap at the law's start -/
abbrev cY : Type := va_G × (Nat → ClassId) × (Nat → ClassId) × (Nat → Prop) × Heap
def cCap (k : Nat) : List Nat := match k with
  | 33 => [900]
  | 34 => [900]
  | 35 => [901]
  | 36 => []
  | 37 => [901]
  | 38 => [901]
  | 39 => [901]
  | 40 => [901]
  | 41 => [901]
  | 42 => [901]
  | 43 => [901]
  | 44 => [901]
  | 45 => [901]
  | _ => []
/-- elements of arrays by code: 20 int[], 21 byte[]: ints; 22 Object[], 23 Actor[], 24 Integer[]: references -/
def cEl (k j : Nat) : Nat := if k < 22 then ei j else er j
def cAt (Y : cY) (ad : Nat → Nat) (s : cS) (a : Nat) (H : Heap) : Prop :=
  if cK s a = 99 then True
  else if cK s a < 18 then ∃ r : vw_C, ccl[cK s a - 1]? = some r ∧ ∃ cell : Cell, H[ad a]? = some cell ∧ cell.cls = Y.1.1 (cK s a - 1) ∧ cell.vm = .none ∧ cell.monitor = {} ∧ ∀ k, k < r.2.2 → cell.slots[Y.1.2 (cK s a - 1) k]? = some (tv ad (cVal s (cFl (cK s a - 1) k) a))
  else if cK s a < 30 then H[ad a]? = some (arrV (Y.2.1 (cK s a)) (cL s a) (fun j => tv ad (cVal s (cEl (cK s a) j) a)))
  else ∃ cell : Cell, H[ad a]? = some cell ∧ cell.cls = Y.2.2.1 (cK s a) ∧ cell.vm = .none ∧ cell.slots.toList = (cCap (cK s a)).map (fun f => tv ad (cVal s f a))
/-- which codes may be written -/
def cWr (k : Nat) : Bool := decide (k < 17) || decide (20 ≤ k ∧ k < 24)
def cOld (Y : cY) (H : Heap) : Prop := Y.2.2.2.2.size ≤ H.size ∧ (∀ q, q < Y.2.2.2.2.size → H[q]? = Y.2.2.2.2[q]?) ∧ ∀ q, H.size ≤ q → Y.2.2.2.1 q
/-- what Throwable's two statics hold (the number 299's fields 52, 53): null, or the old objects 257, 258 -/
def cOU (Y : cY) (i : Nat) : Option Nat := if Y.2.1 (2000 + i) = 0 then none else some i
def cFix (Y : cY) (s : cS) : Prop := 300 ≤ cn s ∧ cK s 299 = 0 ∧ cR s 52 299 = cOU Y 257 ∧ cR s 53 299 = cOU Y 258 ∧ ∀ f u, cR s f 299 = some u → cK s u ≠ 0
def cH (Y : cY) (ad : Nat → Nat) (s : cS) (H : Heap) : Prop :=
  (cFix Y s ∧ ∀ a, cn s ≤ a → cK s a = 0) ∧ (∀ a b, cK s a ≠ 0 → cK s b ≠ 0 → cK s a ≠ 99 → cK s b ≠ 99 → ad a = ad b → a = b) ∧
  (∀ a, cK s a ≠ 0 → ad a < H.size ∧ cAt Y ad s a H) ∧ (∀ a, cK s a ≠ 0 → (a < 300 → ad a = Y.2.1 (1000 + a)) ∧ (cK s a ≠ 99 → (Y.2.2.2.1 (ad a) ∨ (a < 300 ∧ (cK s a = 17 ∨ cK s a = 24 ∨ 30 ≤ cK s a))))) ∧
  (∀ f a u, cK s a ≠ 0 → cR s f a = some u → cK s u ≠ 0) ∧ cOld Y H

def lmap (ad : Nat → Nat) (lv : List (Nat × Value)) : List (Nat × Value) := lv.map (fun q => (q.1, tv ad q.2))
/-- a value is an int or the like, null, or an object that is there -/
def vOk (s : cS) (v : Value) : Prop := match v with
  | .ref a => cK s a ≠ 0
  | _ => True
def cRf (s : cS) (lv : List (Nat × Value)) (st : List Value) : Prop := (∀ q ∈ lv, vOk s q.2) ∧ ∀ v ∈ st, vOk s v
/-- locals' size; the method's entry: its state, its addresses; the end -/
abbrev cMd (α : Type) : Type := Nat × cS × (Nat → Nat) × (α → cS → Nat → Nat → State → Prop)
/-- numbers, slots grow; what is there keeps its code -/
def cMo (s s' : cS) : Prop := cn s ≤ cn s' ∧ cz s ≤ cz s' ∧ ∀ a, a < cn s → cK s' a = cK s a
theorem cMo.rf (s : cS) : cMo s s := ⟨Nat.le_refl _, Nat.le_refl _, fun _ _ => rfl⟩
theorem cMo.trans {a b c : cS} (h : cMo a b) (k : cMo b c) : cMo a c := ⟨Nat.le_trans h.1 k.1, Nat.le_trans h.2.1 k.2.1, fun x hx => (k.2.2 x (Nat.lt_of_lt_of_le hx h.1)).trans (h.2.2 x hx)⟩
def GC {α : Type} (X : gCx) (Y : cY) (M : cMd α) (F : Option (α × cS)) (s : cS) (pc : Nat) (lv : List (Nat × Value)) (st : List Value) : Prop :=
  ∀ (r : α) (s' : cS), F = some (r, s') → cMo s s' ∧
    ∀ (ad : Nat → Nat) (mc ms cells slots : Nat) (H : Heap) (locs : List Loc) (ls : Array Slot), mc ≤ (gRm X).cells → ms ≤ (gRm X).slots → cells + cn s' ≤ mc + cn s → slots + cz s' ≤ ms + cz s →
      cH Y ad s H → cRf s lv st → cn M.2.1 ≤ cn s → (∀ a, a < cn M.2.1 → ad a = M.2.2.1 a) → va_S Y.2.2.2.1 (gSt X).heap H locs → gHas ls M.1 (lmap ad lv) →
      gW X H locs cells slots (M.2.2.2 r s' mc ms) (F0 (gMe X) pc ls (st.map (tv ad)))
theorem tv_cat (ad : Nat → Nat) (v : Value) : (tv ad v).category = v.category := by cases v <;> rfl
theorem lget_map {ad : Nat → Nat} {lv : List (Nat × Value)} {i : Nat} : lget (lmap ad lv) i = (lget lv i).map (tv ad) := by
  induction lv with
  | nil => rfl
  | cons a r ih =>
    obtain ⟨j, v⟩ := a
    show lget ((j, tv ad v) :: lmap ad r) i = _
    unfold lget
    cases Nat.beq i j with
    | true => rfl
    | false => exact ih
theorem lrem_map {ad : Nat → Nat} {lv : List (Nat × Value)} {i : Nat} : lrem i (lmap ad lv) = lmap ad (lrem i lv) := by
  induction lv with
  | nil => rfl
  | cons a r ih =>
    obtain ⟨j, v⟩ := a
    show lrem i ((j, tv ad v) :: lmap ad r) = _
    unfold lrem
    cases Nat.beq i j with
    | true => exact ih
    | false =>
      show (j, tv ad v) :: lrem i (lmap ad r) = _
      rw [ih]; rfl
theorem lins_map {ad : Nat → Nat} {lv : List (Nat × Value)} {i : Nat} {v : Value} : lins i (tv ad v) (lmap ad lv) = lmap ad (lins i v lv) := by
  induction lv with
  | nil => rfl
  | cons a r ih =>
    obtain ⟨j, x⟩ := a
    show lins i (tv ad v) ((j, tv ad x) :: lmap ad r) = _
    unfold lins
    cases Nat.ble i j with
    | true => rfl
    | false =>
      show (j, tv ad x) :: lins i (tv ad v) (lmap ad r) = _
      rw [ih]; rfl
theorem lput_map {ad : Nat → Nat} {lv : List (Nat × Value)} {i : Nat} {v : Value} : lput i (tv ad v) (lmap ad lv) = lmap ad (lput i v lv) := by
  unfold lput
  rw [lrem_map, lins_map]
theorem lmap_pick {ad : Nat → Nat} {lv : List (Nat × Value)} (ks : List Nat) : lv_pick (lmap ad lv) ks = lmap ad (lv_pick lv ks) := by
  unfold lv_pick lmap
  induction ks with
  | nil => rfl
  | cons k ks ih =>
    simp only [List.filterMap_cons, List.getElem?_map]
    cases lv[k]? with
    | none => simpa [List.getElem?_map] using ih
    | some x => simpa [List.getElem?_map] using ih
theorem cRf.get {s : cS} {lv : List (Nat × Value)} {st : List Value} (h : cRf s lv st) {i : Nat} {v : Value} (hl : lget lv i = some v) : vOk s v := h.1 (i, v) (lget_mem hl)
theorem cRf.put {s : cS} {lv : List (Nat × Value)} {st st' : List Value} {v : Value} (h : cRf s lv (v :: st)) (i : Nat) (hst : st' = st) : cRf s (lput i v lv) st' := by
  refine ⟨fun q hq => ?_, fun x hx => h.2 x (by rw [hst] at hx; exact List.mem_cons_of_mem _ hx)⟩
  rcases lput_mem hq with e | e
  · rw [e]; exact h.2 v List.mem_cons_self
  · exact h.1 q e.1
theorem cRf.tail {s : cS} {lv : List (Nat × Value)} {v : Value} {st : List Value} (h : cRf s lv (v :: st)) : cRf s lv st := ⟨h.1, fun x hx => h.2 x (List.mem_cons_of_mem _ hx)⟩
theorem cRf.head {s : cS} {lv : List (Nat × Value)} {v : Value} {st : List Value} (h : cRf s lv (v :: st)) : vOk s v := h.2 v List.mem_cons_self
theorem cRf.cons {s : cS} {lv : List (Nat × Value)} {v : Value} {st : List Value} (h : cRf s lv st) (hv : vOk s v) : cRf s lv (v :: st) := ⟨h.1, fun x hx => by
  rcases List.mem_cons.mp hx with e | e
  · rw [e]; exact hv
  · exact h.2 x e⟩
section GCR
variable {α : Type} {X : gCx} {Y : cY} {M : cMd α} {F A B : Option (α × cS)} {s : cS} {pc : Nat} {lv lv' : List (Nat × Value)} {st st' : List Value} {own : String} {cc : ByteArray}
/-- an instruction that moves the frame alone -/
theorem gc_go {pc' : Nat} (hh : ∀ (ad : Nat → Nat) (H : Heap) (locs : List Loc) (cells slots : Nat) (Q : State → Prop) (ls : Array Slot), gHas ls M.1 (lmap ad lv) → (∀ ls' : Array Slot, gHas ls' M.1 (lmap ad lv') → gW X H locs cells slots Q (F0 (gMe X) pc' ls' (st'.map (tv ad)))) → gW X H locs cells slots Q (F0 (gMe X) pc ls (st.map (tv ad))))
    (hr : cRf s lv st → cRf s lv' st') (k : GC X Y M F s pc' lv' st') : GC X Y M F s pc lv st := by
  intro r t' h
  obtain ⟨h1, h2⟩ := k r t' h
  exact ⟨h1, fun ad mc ms cells slots H locs ls a b c d e f g i j l => hh ad H locs cells slots _ ls l fun ls' l' => h2 ad mc ms cells slots H locs ls' a b c d e (hr f) g i j l'⟩
theorem gc_none : GC X Y M (none : Option (α × cS)) s pc lv st := fun _ _ h => by cases h
theorem gc_sub (ks : List Nat) (hl : lv_pick lv ks = lv') (k : GC X Y M F s pc lv' st) : GC X Y M F s pc lv st := by
  refine gc_go (fun ad H locs cells slots Q ls g kk => kk ls (g.sub ks (by rw [lmap_pick, hl]))) (fun h => ⟨fun q hq => ?_, h.2⟩) k
  subst hl
  obtain ⟨k, -, hk⟩ := List.mem_filterMap.mp hq
  exact h.1 q (List.mem_of_getElem? hk)
theorem gc_letv {f : Int32 → Option (α × cS)} {x : Int32} (k : ∀ y : Int32, y = x → GC X Y M (f y) s pc lv (.int y :: st)) : GC X Y M (letv x f) s pc lv (.int x :: st) := k x rfl
theorem gc_jn {J : Type} (P : J → Prop) {f : J} {g : J → Option (α × cS)} (hf : P f) (hg : ∀ j, P j → GC X Y M (g j) s pc lv st) : GC X Y M (jn f g) s pc lv st := hg f hf
theorem gc_letS {K : cS → Option (α × cS)} {e : cS} (k : ∀ t1 : cS, GC X Y M (K t1) t1 pc lv st) : GC X Y M (letv e K) e pc lv st := k e
theorem gc_gd {c : Prop} [Decidable c] (k : c → GC X Y M F s pc lv st) : GC X Y M (gd c F) s pc lv st := by
  by_cases h : c
  · rw [gd_t h]; exact k h
  · intro r t' e; unfold gd at e; rw [if_neg h] at e; cases e
theorem gc_br {q : Prop} [Decidable q] {tgt pc2 : Nat} (hh : ∀ (ad : Nat → Nat) (H : Heap) (locs : List Loc) (cells slots : Nat) (Q : State → Prop) (ls : Array Slot), gHas ls M.1 (lmap ad lv) → cH Y ad s H → cRf s lv st → (q → gW X H locs cells slots Q (F0 (gMe X) tgt ls (st'.map (tv ad)))) → (¬ q → gW X H locs cells slots Q (F0 (gMe X) pc2 ls (st'.map (tv ad)))) → gW X H locs cells slots Q (F0 (gMe X) pc ls (st.map (tv ad))))
    (hr : cRf s lv st → cRf s lv st') (ka : GC X Y M A s tgt lv st') (kb : GC X Y M B s pc2 lv st') : GC X Y M (if q then A else B) s pc lv st := by
  intro r t' h
  by_cases hq : q
  · rw [if_pos hq] at h
    obtain ⟨h1, h2⟩ := ka r t' h
    exact ⟨h1, fun ad mc ms cells slots H locs ls a b c d e f g i j l => hh ad H locs cells slots _ ls l e f (fun _ => h2 ad mc ms cells slots H locs ls a b c d e (hr f) g i j l) (fun n => absurd hq n)⟩
  · rw [if_neg hq] at h
    obtain ⟨h1, h2⟩ := kb r t' h
    exact ⟨h1, fun ad mc ms cells slots H locs ls a b c d e f g i j l => hh ad H locs cells slots _ ls l e f (fun n => absurd n hq) (fun _ => h2 ad mc ms cells slots H locs ls a b c d e (hr f) g i j l)⟩
end GCR
