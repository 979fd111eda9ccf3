/-! the twin's heap as a function: t k i; k < 12: its int arrays; 12 .. 17: rows[k - 12]; 18: its int fields by their place in TX4 -/
abbrev tSt : Type := Nat → Nat → Int32
def tup (t : tSt) (k j : Nat) (x : Int32) : tSt := fun a b => if a = k ∧ b = j then x else t a b
/-- the tables' numbers, the classes of int[] and int[][], the addresses -/
abbrev tZ : Type := va_G × ClassId × ClassId × (Nat → Nat)
def tlen : Nat → Nat := fun k => match k with
  | 0 => 1018
  | 1 => 1018
  | 2 => 1018
  | 3 => 1018
  | 4 => 26
  | 5 => 120
  | 6 => 6
  | 7 => 6
  | 8 => 6
  | 9 => 12
  | 10 => 12
  | 11 => 5
  | _ => 60
def tfl (Z : tZ) (t : tSt) : List Value := [.ref (Z.2.2.2 0), .ref (Z.2.2.2 1), .ref (Z.2.2.2 2), .ref (Z.2.2.2 3), .int (t 18 4), .int (t 18 5), .int (t 18 6), .int (t 18 7), .ref (Z.2.2.2 4), .int (t 18 9), .ref (Z.2.2.2 5), .int (t 18 11), .ref (Z.2.2.2 6), .ref (Z.2.2.2 7), .ref (Z.2.2.2 8), .ref (Z.2.2.2 19), .ref (Z.2.2.2 9), .ref (Z.2.2.2 10), .int (t 18 18), .int (t 18 19), .int (t 18 20), .ref (Z.2.2.2 11)]
def twE (Z : tZ) (t : tSt) (k : Nat) : Nat × va_E := if k < 18 then (Z.2.2.2 k, .inl (Z.2.1, tlen k, .inl (t k))) else if k = 18 then (Z.2.2.2 18, .inr (0, tfl Z t)) else (Z.2.2.2 19, .inl (Z.2.2.1, 6, .inr (.inr (.inr (.inr (fun i => some (Z.2.2.2 (12 + i))))))))
def twL (Z : tZ) (t : tSt) : va_W := (List.range 20).map (twE Z t)
abbrev tcl : List vw_C := [(RX4, TX4, 22)]
abbrev tTys (Z : tZ) : List (ClassId × FieldType) := [(Z.2.1, .int), (Z.2.2.1, .array .int)]
def tA (Z : tZ) : Nat → Prop := fun q => ∃ k, k < 20 ∧ q = Z.2.2.2 k
def tI (Z : tZ) (t : tSt) (H : Heap) : Prop := va_P Z.1 tcl (twL Z t) H
def tInj (Z : tZ) : Prop := ∀ i j, i < 20 → j < 20 → Z.2.2.2 i = Z.2.2.2 j → i = j
def tOk (X : gCx) (Z : tZ) (own : String) (cc : ByteArray) (d : Nat) : Prop := gOk X own cc ∧ va_K Z.1 tcl (tTys Z) (gSt X) ∧ tInj Z ∧ d ≤ (gRm X).frames ∧ 64 * d ≤ (gRm X).locals
def tCt (l : Launch) (Z : tZ) (y : MethodName) (cc : ByteArray) (nL : Nat) (ret : Option FieldType) (d : Nat) (av : List Value) (t : tSt) (v : Option Value) (t' : tSt) : Prop :=
  Met l y (ws_ y cc nL ret) ({ frames := d, cells := 0, slots := 0, locals := 64 * d }) (va_Pc av (fun U => tI Z t U.heap ∧ va_K Z.1 tcl (tTys Z) U)) (fun _ st o u => o = .returned v ∧ tI Z t' u.heap ∧ va_F (tA Z) st u) 0 0 (tA Z)
def tQ {α : Type} (Z : tZ) (X : gCx) (ρ : α → Option Value) : α → tSt → Nat → Nat → State → Prop := match X with
  | (_, _, _, _, s, _, args, below, _, _) => fun r t' mc ms => MQ below (fun _ st o u => o = .returned (ρ r) ∧ tI Z t' u.heap ∧ va_F (tA Z) st u) args s mc ms (tA Z)
abbrev tM {α : Type} (Z : tZ) (X : gCx) (nL : Nat) (ρ : α → Option Value) : gMd tSt α := (nL, fun _ => 0, fun _ => 0, tI Z, tA Z, tQ Z X ρ)
def gRet (X : gCx) : Option FieldType := X.2.2.2.2.2.2.2.2.1.sig.returnType
def gLn (X : gCx) : Launch := X.2.1
def gLoc (X : gCx) : Nat := X.2.2.2.2.2.2.2.2.2.maxLocals
theorem twL_at {Z : tZ} {t : tSt} {k : Nat} (h : k < 20) : (twL Z t)[k]? = some (twE Z t k) := by
  simp [twL, h]
theorem twE_fst {Z : tZ} {t : tSt} {k : Nat} (h : k < 20) : (twE Z t k).1 = Z.2.2.2 k := by
  unfold twE
  by_cases h1 : k < 18
  · rw [if_pos h1]
  · rw [if_neg h1]
    by_cases h2 : k = 18
    · rw [if_pos h2, h2]
    · rw [if_neg h2]
      have : k = 19 := by omega
      rw [this]
theorem twL_len (Z : tZ) (t : tSt) : (twL Z t).length = 20 := by simp [twL]
theorem twL_D {Z : tZ} {t : tSt} (hj : tInj Z) : va_D (tA Z) (twL Z t) := by
  have hl : ∀ (k : Nat) (q : Nat × va_E), (twL Z t)[k]? = some q → k < 20 ∧ q.1 = Z.2.2.2 k := by
    intro k q h
    have h1 : k < 20 := by rw [← twL_len Z t]; exact (List.getElem?_eq_some_iff.mp h).1
    rw [twL_at h1] at h
    cases h
    exact ⟨h1, twE_fst h1⟩
  refine ⟨fun i j p q h1 h2 he => ?_, fun k q h => ⟨k, (hl k q h).1, (hl k q h).2⟩⟩
  have a := hl i p h1
  have b := hl j q h2
  exact hj i j a.1 b.1 (by rw [← a.2, ← b.2]; exact he)
theorem tup_ne {t : tSt} {k j : Nat} {x : Int32} {a : Nat} (h : a ≠ k) : tup t k j x a = t a := by
  funext b
  simp [tup, h]
theorem tup_eq {t : tSt} {k j : Nat} {x : Int32} : tup t k j x k = upd (t k) j x := by
  funext b
  simp [tup, upd]
theorem tfl_tup {Z : tZ} {t : tSt} {k j : Nat} {x : Int32} (h : k ≠ 18) : tfl Z (tup t k j x) = tfl Z t := by
  have : (tup t k j x) 18 = t 18 := tup_ne (fun e => h e.symm)
  unfold tfl
  rw [this]
theorem twL_arr {Z : tZ} {t : tSt} {k j : Nat} {x : Int32} (hk : k < 18) : (twL Z t).set k (Z.2.2.2 k, .inl (Z.2.1, tlen k, .inl (upd (t k) j x))) = twL Z (tup t k j x) := by
  apply List.ext_getElem?
  intro i
  by_cases h : i < 20
  · rw [twL_at h]
    by_cases e : i = k
    · subst e
      rw [List.getElem?_set_self (by rw [twL_len]; exact h)]
      unfold twE
      rw [if_pos hk, tup_eq]
    · rw [List.getElem?_set_ne (Ne.symm e), twL_at h]
      unfold twE
      rw [tup_ne e, tfl_tup (by omega)]
  · rw [List.getElem?_eq_none (by rw [List.length_set, twL_len]; omega), List.getElem?_eq_none (by rw [twL_len]; omega)]
theorem twL_fld {Z : tZ} {t : tSt} {f : Nat} {x : Int32} (hf : ∀ v : Int32, (tfl Z t).set f (.int v) = tfl Z (tup t 18 f v)) : (twL Z t).set 18 (Z.2.2.2 18, .inr (0, (tfl Z t).set f (.int x))) = twL Z (tup t 18 f x) := by
  apply List.ext_getElem?
  intro i
  by_cases h : i < 20
  · rw [twL_at h]
    by_cases e : i = 18
    · subst e
      rw [List.getElem?_set_self (by rw [twL_len]; exact h), hf]
      rfl
    · rw [List.getElem?_set_ne (Ne.symm e), twL_at h]
      unfold twE
      rw [tup_ne e]
      by_cases h1 : i < 18
      · rw [if_pos h1, if_pos h1]
      · rw [if_neg h1, if_neg h1, if_neg e, if_neg e]
  · rw [List.getElem?_eq_none (by rw [List.length_set, twL_len]; omega), List.getElem?_eq_none (by rw [twL_len]; omega)]
/-- an element read -/
def trd (t : tSt) (k : Nat) (i : Int32) : Option Int32 := if ¬ (i < 0) ∧ i.toNatClampNeg < tlen k then some (t k i.toNatClampNeg) else none
/-- an element written -/
def twr (t : tSt) (k : Nat) (i x : Int32) : Option tSt := if ¬ (i < 0) ∧ i.toNatClampNeg < tlen k then some (tup t k i.toNatClampNeg x) else none
def trow (i : Int32) : Option Nat := if ¬ (i < 0) ∧ i.toNatClampNeg < 6 then some (12 + i.toNatClampNeg) else none
theorem trd_some {t : tSt} {k : Nat} {i x : Int32} (h : trd t k i = some x) : vp_in i (tlen k) ∧ x = t k i.toNatClampNeg := by
  unfold trd at h
  by_cases c : ¬ (i < 0) ∧ i.toNatClampNeg < tlen k
  · rw [if_pos c] at h
    cases h
    exact ⟨fun q => q.elim c.1 (fun q => by omega), rfl⟩
  · rw [if_neg c] at h; cases h
theorem twr_some {t t' : tSt} {k : Nat} {i x : Int32} (h : twr t k i x = some t') : vp_in i (tlen k) ∧ t' = tup t k i.toNatClampNeg x := by
  unfold twr at h
  by_cases c : ¬ (i < 0) ∧ i.toNatClampNeg < tlen k
  · rw [if_pos c] at h
    cases h
    exact ⟨fun q => q.elim c.1 (fun q => by omega), rfl⟩
  · rw [if_neg c] at h; cases h
theorem trow_some {i : Int32} {n : Nat} (h : trow i = some n) : vp_in i 6 ∧ n = 12 + i.toNatClampNeg := by
  unfold trow at h
  by_cases c : ¬ (i < 0) ∧ i.toNatClampNeg < 6
  · rw [if_pos c] at h
    cases h
    exact ⟨fun q => q.elim c.1 (fun q => by omega), rfl⟩
  · rw [if_neg c] at h; cases h
section TWR
variable {α β : Type} {X : gCx} {Z : tZ} {nL : Nat} {ρ : α → Option Value} {F : Option (α × tSt)} {t : tSt} {pc d : Nat} {lv : List (Nat × Value)} {st : List Value} {own : String} {cc : ByteArray}
/-- a step that reads -/
theorem tf_rd {pc' : Nat} {st' : List Value} (hh : ∀ (H : Heap) (locs : List Loc) (cells slots : Nat) (Q : State → Prop) (ls : Array Slot), tI Z t H → gHas ls nL lv → gW X H locs cells slots Q (F0 (gMe X) pc' ls st') → gW X H locs cells slots Q (F0 (gMe X) pc ls st))
    (k : GF X (tM Z X nL ρ) F t pc' lv st') : GF X (tM Z X nL ρ) F t pc lv st := by
  intro r t' h
  obtain ⟨h1, h2⟩ := k r t' h
  exact ⟨h1, fun mc ms cells slots H locs ls a b c d e f g => hh H locs cells slots _ ls e g (h2 mc ms cells slots H locs ls a b c d e f g)⟩
/-- a step that writes -/
theorem tf_wr {pc' : Nat} {st' : List Value} {t1 : tSt} (hh : ∀ (H : Heap) (locs : List Loc) (cells slots : Nat) (Q : State → Prop) (ls : Array Slot), tI Z t H → va_S (tA Z) (gSt X).heap H locs → (∀ (H1 : Heap) (locs1 : List Loc), tI Z t1 H1 → va_S (tA Z) (gSt X).heap H1 locs1 → gW X H1 locs1 cells slots Q (F0 (gMe X) pc' ls st')) → gW X H locs cells slots Q (F0 (gMe X) pc ls st))
    (k : GF X (tM Z X nL ρ) F t1 pc' lv st') : GF X (tM Z X nL ρ) F t pc lv st := by
  intro r t' h
  obtain ⟨h1, h2⟩ := k r t' h
  exact ⟨h1, fun mc ms cells slots H locs ls a b c d e f g => hh H locs cells slots _ ls e f fun H1 locs1 e1 f1 => h2 mc ms cells slots H1 locs1 ls a b c d e1 f1 g⟩
theorem tf_get (hC : tOk X Z own cc d) {index : Nat} (f : Nat) {v : Value} (hdg : decode cc pc = .ok (.getfield index, 3)) (hf : f < 22) (hlink : Cond.fieldLink own index (TX4 f).1 (TX4 f).2.1 (TX4 f).2.2.1 ∈ lw_all) (hv : (tfl Z t)[f]? = some v)
    (k : GF X (tM Z X nL ρ) F t (pc + 3) lv (v :: st)) : GF X (tM Z X nL ρ) F t pc lv (.ref (Z.2.2.2 18) :: st) := by
  obtain ⟨p, l, e, R, s, m, args, below, meth, c⟩ := X
  obtain ⟨⟨hx, hb, hown, hts, hlk⟩, hK, hj, -⟩ := hC
  exact tf_rd (fun H locs cells slots Q ls hI g kk => va_get hx hb hts in_X4 hown hK hI 18 (fs := tfl Z t) (ci := 0) (twL_at (by decide)) rfl f hf (hts _ hlink) (fun _ h => h) hv hdg kk) k
theorem tf_put (hC : tOk X Z own cc d) {index : Nat} (f : Nat) {x : Int32} (hdg : decode cc pc = .ok (.putfield index, 3)) (hf : f < 22) (hlink : Cond.fieldLink own index (TX4 f).1 (TX4 f).2.1 (TX4 f).2.2.1 ∈ lw_all) (hfin : (TX4 f).2.2.2 = false) (hn : narrow (tyX4 f) (.int x) = .int x) (hfit : fits (tyX4 f) (.int x) = true) (hs : ∀ v : Int32, (tfl Z t).set f (.int v) = tfl Z (tup t 18 f v))
    (k : GF X (tM Z X nL ρ) F (tup t 18 f x) (pc + 3) lv st) : GF X (tM Z X nL ρ) F t pc lv (.int x :: .ref (Z.2.2.2 18) :: st) := by
  obtain ⟨p, l, e, R, s, m, args, below, meth, c⟩ := X
  obtain ⟨⟨hx, hb, hown, hts, hlk⟩, hK, hj, -⟩ := hC
  refine tf_wr (fun H locs cells slots Q ls hI hS kk => ?_) k
  refine va_put hx hb hts in_X4 tyX4 tyX4_ok nmX4 hown hK hI (twL_D hj) hS 18 (fs := tfl Z t) (ci := 0) (twL_at (by decide)) rfl f hf (hts _ hlink) (fun _ h => h) hfin (tyX4_ok f hf) hn hfit hf hdg fun H1 locs1 hP hD hS1 => ?_
  exact kk H1 locs1 (by unfold tI; rw [← twL_fld hs]; exact hP) hS1
theorem tf_iald (hC : tOk X Z own cc d) {k : Nat} {i : Int32} {K : Int32 → Option (α × tSt)} (hdg : decode cc pc = .ok (.iaload, 1)) (hk : k < 18)
    (kk : ∀ x : Int32, GF X (tM Z X nL ρ) (K x) t (pc + 1) lv (.int x :: st)) : GF X (tM Z X nL ρ) (rv (trd t k i) K) t pc lv (.int i :: .ref (Z.2.2.2 k) :: st) := by
  cases h : trd t k i with
  | none => exact gf_none
  | some x =>
    obtain ⟨h1, h2⟩ := trd_some h
    obtain ⟨p, l, e, R, s, m, args, below, meth, c⟩ := X
    obtain ⟨⟨hx, hb, hown, hts, hlk⟩, hK, hj, -⟩ := hC
    refine tf_rd (fun H locs cells slots Q ls hI g k1 => ?_) (kk x)
    rw [h2] at k1
    exact va_iald hx hb hK hI k 0 (f := t k) (n := tlen k) (by rw [twL_at (by omega)]; unfold twE; rw [if_pos hk]) rfl h1 hdg k1
theorem tf_iast (hC : tOk X Z own cc d) {k : Nat} {i x : Int32} {K : tSt → Option (α × tSt)} (hdg : decode cc pc = .ok (.iastore, 1)) (hk : k < 18)
    (kk : ∀ t1 : tSt, GF X (tM Z X nL ρ) (K t1) t1 (pc + 1) lv st) : GF X (tM Z X nL ρ) (rv (twr t k i x) K) t pc lv (.int x :: .int i :: .ref (Z.2.2.2 k) :: st) := by
  cases h : twr t k i x with
  | none => exact gf_none
  | some t1 =>
    obtain ⟨h1, h2⟩ := twr_some h
    obtain ⟨p, l, e, R, s, m, args, below, meth, c⟩ := X
    obtain ⟨⟨hx, hb, hown, hts, hlk⟩, hK, hj, -⟩ := hC
    refine tf_wr (fun H locs cells slots Q ls hI hS k1 => ?_) (kk t1)
    refine va_iast hx hb hK hI (twL_D hj) hS k 0 (f := t k) (n := tlen k) (by rw [twL_at (by omega)]; unfold twE; rw [if_pos hk]) rfl h1 hdg fun H1 locs1 hP hD hS1 => ?_
    exact k1 H1 locs1 (by unfold tI; rw [h2, ← twL_arr hk]; exact hP) hS1
theorem tf_aald (hC : tOk X Z own cc d) {i : Int32} {K : Nat → Option (α × tSt)} (hdg : decode cc pc = .ok (.aaload, 1))
    (kk : ∀ n : Nat, n < 18 → GF X (tM Z X nL ρ) (K n) t (pc + 1) lv (.ref (Z.2.2.2 n) :: st)) : GF X (tM Z X nL ρ) (rv (trow i) K) t pc lv (.int i :: .ref (Z.2.2.2 19) :: st) := by
  cases h : trow i with
  | none => exact gf_none
  | some n =>
    obtain ⟨h1, h2⟩ := trow_some h
    have hlt : i.toNatClampNeg < 6 := Nat.not_le.mp fun q => h1 (Or.inr q)
    obtain ⟨p, l, e, R, s, m, args, below, meth, c⟩ := X
    obtain ⟨⟨hx, hb, hown, hts, hlk⟩, hK, hj, -⟩ := hC
    refine tf_rd (fun H locs cells slots Q ls hI g k1 => ?_) (kk n (by omega))
    have hc : H[Z.2.2.2 19]? = some (vp_cell Z.2.2.1 (6, .inr (.inr (.inr (.inr (fun i => some (Z.2.2.2 (12 + i)))))))) := hI 19 _ (twL_at (by decide))
    exact W.aald (v := .ref (Z.2.2.2 n)) (ty := .array .int) hx hb hc ((hK.2 1 _ rfl).1 6 (fun j => va_rf (some (Z.2.2.2 (12 + j))))) rfl (fun q => by cases q) (by show ¬ (i < 0 ∨ (arrV _ _ _).slots.size ≤ _); rw [arrV_size]; exact h1) (by show (arrV _ _ _).slots[_]? = _; rw [arrV_read _ _ hlt, h2]; rfl) rfl rfl hdg k1
/-- the ends -/
theorem tf_ret {x : Int32} {r : α} (hC : tOk X Z own cc d) {ty : FieldType} (hr : gRet X = some ty) (hn : narrow ty (.int x) = .int x) (hρ : ρ r = some (.int x)) (hdg : decode cc pc = .ok (.ireturn, 1)) : GF X (tM Z X nL ρ) (some (r, t)) t pc lv [.int x] := by
  intro r' t' h
  cases h
  refine ⟨⟨Nat.le_refl _, Nat.le_refl _⟩, fun mc ms cells slots H locs ls a b c d e f g => ?_⟩
  obtain ⟨p, l, e0, R, s, m, args, below, meth, c0⟩ := X
  obtain ⟨⟨hx, hb, hown, hts, hlk⟩, hK, hj, -⟩ := hC
  refine W.widen (k := mc) (n := ms) (by simpa using c) (by simpa using d) ?_
  show W p l e0 R s m args below meth c0 H locs mc ms (MQ below (fun _ st o u => o = .returned (ρ r) ∧ tI Z t u.heap ∧ va_F (tA Z) st u) args s mc ms (tA Z)) (F0 m pc ls [.int x])
  exact W.zret (v := x) hx hb hr hn (fun u hu hW => ⟨by rw [hρ], by rw [hu]; exact e, f.F hu⟩) f.2.2 hdg hlk
theorem tf_vret {r : α} (hC : tOk X Z own cc d) (hr : gRet X = none) (hρ : ρ r = none) (hdg : decode cc pc = .ok (.return_, 1)) : GF X (tM Z X nL ρ) (some (r, t)) t pc lv [] := by
  intro r' t' h
  cases h
  refine ⟨⟨Nat.le_refl _, Nat.le_refl _⟩, fun mc ms cells slots H locs ls a b c d e f g => ?_⟩
  obtain ⟨p, l, e0, R, s, m, args, below, meth, c0⟩ := X
  obtain ⟨⟨hx, hb, hown, hts, hlk⟩, hK, hj, -⟩ := hC
  refine W.widen (k := mc) (n := ms) (by simpa using c) (by simpa using d) ?_
  show W p l e0 R s m args below meth c0 H locs mc ms (MQ below (fun _ st o u => o = .returned (ρ r) ∧ tI Z t u.heap ∧ va_F (tA Z) st u) args s mc ms (tA Z)) (F0 m pc ls [])
  exact W.vret hx hb hr (fun u hu hW => ⟨by rw [hρ], by rw [hu]; exact e, f.F hu⟩) f.2.2 hdg hlk
end TWR
