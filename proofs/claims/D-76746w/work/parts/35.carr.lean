/-! arrays of the component -/
theorem cEl_I {k : Nat} (h : k < 22) (j : Nat) : cEl k j = ei j := if_pos h
theorem cEl_R {k : Nat} (h : ¬ k < 22) (j : Nat) : cEl k j = er j := if_neg h
theorem cRef_ei (j : Nat) : cRef (ei j) = false := by
  unfold cRef ei
  rw [if_neg (by omega), if_neg (by omega)]
  have : (1000 + 2 * j) % 2 = 0 := by omega
  rw [this]; rfl
theorem cRef_er (j : Nat) : cRef (er j) = true := by
  unfold cRef er
  rw [if_neg (by omega), if_neg (by omega)]
  have : (1001 + 2 * j) % 2 = 1 := by omega
  rw [this]; rfl
theorem cVal_ei {s : cS} {j a : Nat} : cVal s (ei j) a = .int (cI s (ei j) a) := by unfold cVal; rw [cRef_ei]; rfl
theorem cVal_er {s : cS} {j a : Nat} : cVal s (er j) a = vr (cR s (er j) a) := by unfold cVal; rw [cRef_er]; rfl
theorem arrV_congr {cA : ClassId} {n : Nat} {f g : Nat → Value} (h : ∀ j, f j = g j) : arrV cA n f = arrV cA n g := by
  have : f = g := funext h
  rw [this]
/-- an index in range -/
abbrev cIn (s : cS) (a : Nat) (i : Int32) : Prop := ¬ (i < 0) ∧ i.toNatClampNeg < cL s a
theorem cIn_in {s : cS} {a : Nat} {i : Int32} (h : cIn s a i) {cA : ClassId} {f : Nat → Value} : ¬ (i < 0 ∨ (arrV cA (cL s a) f).slots.size ≤ i.toNatClampNeg) := by
  rw [arrV_size]
  exact fun q => q.elim h.1 (fun q => by have := h.2; omega)
section GCX
variable {α : Type} {X : gCx} {Y : cY} {M : cMd α} {F : Option (α × cS)} {s s1 : cS} {pc pc' d : Nat} {lv lv' : List (Nat × Value)} {st st' : List Value} {own : String} {cc : ByteArray}
theorem gc_alen (hC : cOk X Y own cc d) {a k : Nat} {ty : FieldType} (hk : cK s a = k) (h1 : 20 ≤ k) (h2 : k < 25) {t0 : Nat} (ht : (cTys Y)[t0]? = some (Y.2.1 k, ty)) (hdg : decode cc pc = .ok (.arraylength, 1)) (kk : GC X Y M F s (pc + 1) lv (.int (nI (cL s a)) :: st)) : GC X Y M F s pc lv (.ref a :: st) := by
  refine gc_rd (st' := .int (nI (cL s a)) :: st) (fun ad H locs cells slots Q ls hH hR g k1 => ?_) (fun ad H hH hR => hR.tail.cons trivial) kk
  have hc := hH.arr hk h1 h2
  obtain ⟨p, l, e, R, z, m, args, below, meth, c⟩ := X
  obtain ⟨⟨hx, hb, hown, hts, hlk⟩, hB, -⟩ := hC
  exact W.alen (n := nI (cL s a)) hx hb hc ((hB.1.2 t0 _ ht).1 _ _) (by rw [arrV_size]; rfl) rfl rfl hdg k1
theorem gc_iald (hC : cOk X Y own cc d) {a : Nat} {i : Int32} (hk : cK s a = 20) (hin : cIn s a i) (hdg : decode cc pc = .ok (.iaload, 1)) (kk : GC X Y M F s (pc + 1) lv (.int (cI s (ei i.toNatClampNeg) a) :: st)) : GC X Y M F s pc lv (.int i :: .ref a :: st) := by
  refine gc_rd (st' := .int (cI s (ei i.toNatClampNeg) a) :: st) (fun ad H locs cells slots Q ls hH hR g k1 => ?_) (fun ad H hH hR => hR.tail.tail.cons trivial) kk
  have hc := hH.arr hk (by omega) (by omega)
  obtain ⟨p, l, e, R, z, m, args, below, meth, c⟩ := X
  obtain ⟨⟨hx, hb, hown, hts, hlk⟩, hB, -⟩ := hC
  refine W.iald (v := .int (cI s (ei i.toNatClampNeg) a)) hx hb hc ((hB.1.2 0 _ rfl).1 _ _) (fun q => by cases q) (cIn_in hin) ?_ rfl rfl hdg k1
  rw [arrV_read _ _ hin.2, cEl_I (by omega), cVal_ei]; rfl
theorem gc_bald (hC : cOk X Y own cc d) {a : Nat} {i : Int32} (hk : cK s a = 21) (hin : cIn s a i) (hdg : decode cc pc = .ok (.baload, 1)) (kk : GC X Y M F s (pc + 1) lv (.int (cI s (ei i.toNatClampNeg) a) :: st)) : GC X Y M F s pc lv (.int i :: .ref a :: st) := by
  refine gc_rd (st' := .int (cI s (ei i.toNatClampNeg) a) :: st) (fun ad H locs cells slots Q ls hH hR g k1 => ?_) (fun ad H hH hR => hR.tail.tail.cons trivial) kk
  have hc := hH.arr hk (by omega) (by omega)
  obtain ⟨p, l, e, R, z, m, args, below, meth, c⟩ := X
  obtain ⟨⟨hx, hb, hown, hts, hlk⟩, hB, -⟩ := hC
  refine W.bald (v := .int (cI s (ei i.toNatClampNeg) a)) hx hb hc ((hB.1.2 1 _ rfl).1 _ _) (fun q => by cases q) (cIn_in hin) ?_ rfl rfl hdg k1
  rw [arrV_read _ _ hin.2, cEl_I (by omega), cVal_ei]; rfl
theorem gc_aald (hC : cOk X Y own cc d) {a k : Nat} {i : Int32} {C : String} (hk : cK s a = k) (h1 : 22 ≤ k) (h2 : k < 25) {t0 : Nat} (ht : (cTys Y)[t0]? = some (Y.2.1 k, .object C)) (hin : cIn s a i) (hdg : decode cc pc = .ok (.aaload, 1)) (kk : GC X Y M F s (pc + 1) lv (vr (cR s (er i.toNatClampNeg) a) :: st)) : GC X Y M F s pc lv (.int i :: .ref a :: st) := by
  have hne : cK s a ≠ 0 := by omega
  refine gc_rd (st' := vr (cR s (er i.toNatClampNeg) a) :: st) (fun ad H locs cells slots Q ls hH hR g k1 => ?_) (fun ad H hH hR => hR.tail.tail.cons (by rw [← cVal_er]; exact hH.vok hne)) kk
  have hc := hH.arr hk (by omega) (by omega)
  obtain ⟨p, l, e, R, z, m, args, below, meth, c⟩ := X
  obtain ⟨⟨hx, hb, hown, hts, hlk⟩, hB, -⟩ := hC
  refine W.aald (v := tv ad (vr (cR s (er i.toNatClampNeg) a))) (ty := .object C) hx hb hc ((hB.1.2 t0 _ ht).1 _ _) rfl (fun q => by cases q) (cIn_in hin) ?_ rfl rfl hdg k1
  rw [arrV_read _ _ hin.2, cEl_R (by omega), cVal_er]
/-- an element written -/
theorem gc_astW (hC : cOk X Y own cc d) {a k : Nat} {i : Int32} {w w0 : Value} (hk : cK s a = k) (h1 : 20 ≤ k) (h2 : k < 24) (hin : cIn s a i)
    (hK : cK s1 = cK s) (hL : cL s1 = cL s) (hn1 : cn s1 = cn s) (hz1 : cz s1 = cz s) (hv : ∀ g b, ¬ (g = cEl k i.toNatClampNeg ∧ b = a) → cVal s1 g b = cVal s g b) (hw : cVal s1 (cEl k i.toNatClampNeg) a = w) (hR : vOk s w0 → ∀ g b u, cR s1 g b = some u → cR s g b = some u ∨ cK s u ≠ 0)
    (row : ∀ (ad : Nat → Nat) (H : Heap) (locs : List Loc) (cells slots : Nat) (Q : State → Prop) (ls : Array Slot), cH Y ad s H → cRf s lv (w0 :: .int i :: .ref a :: st) → H[ad a]? = some (arrV (Y.2.1 k) (cL s a) (fun j => tv ad (cVal s (cEl k j) a))) → (∀ H' : Heap, H'[ad a]? = some ((arrV (Y.2.1 k) (cL s a) (fun j => tv ad (cVal s (cEl k j) a))).setSlot i.toNatClampNeg (tv ad w)) → H'.size = H.size → (∀ q, q ≠ ad a → H'[q]? = H[q]?) → gW X H' (locs ++ [⟨ad a, i.toNatClampNeg⟩]) cells slots Q (F0 (gMe X) (pc + 1) ls (st.map (tv ad)))) → gW X H locs cells slots Q (F0 (gMe X) pc ls (tv ad w0 :: .int i :: .ref (ad a) :: st.map (tv ad))))
    (kk : GC X Y M F s1 (pc + 1) lv st) : GC X Y M F s pc lv (w0 :: .int i :: .ref a :: st) := by
  refine gc_wr hn1 hz1 hK (fun ad H locs cells slots Q ls hH hRf hS g k1 => ?_) (fun h => h.tail.tail.tail) kk
  have hc := hH.arr hk h1 (by omega)
  refine row ad H locs cells slots Q ls hH hRf hc fun H' e1 e2 e3 => ?_
  have hA : Y.2.2.2.1 (ad a) := cA_of hH (by omega) (Or.inl (by omega)) (by omega)
  refine k1 H' _ ?_ (hS.put e2 e3 hA)
  refine cH_wr hH hK hL hn1 (fun g b hb => hv g b (fun q => hb q.2)) (hR hRf.head) (by omega) e2 e3 hA hC.2.2.2.2.2.2.2 (by omega) ?_
  unfold cAt
  rw [hK, if_neg (by omega), if_neg (by omega), if_pos (by omega), hk, e1, arrV_store, hL]
  congr 1
  refine arrV_congr fun j => ?_
  unfold updV
  by_cases e : j = i.toNatClampNeg
  · rw [if_pos e, e, hw]
  · rw [if_neg e, hv]
    intro q
    have q1 := q.1
    unfold cEl ei er at q1
    split at q1 <;> omega
theorem pt_Ie {s : cS} {k j a : Nat} {x : Int32} (hk : k < 22) : (cK (sI s (ei j) a x) = cK s ∧ cL (sI s (ei j) a x) = cL s ∧ cn (sI s (ei j) a x) = cn s ∧ cz (sI s (ei j) a x) = cz s) ∧ (∀ g b, ¬ (g = cEl k j ∧ b = a) → cVal (sI s (ei j) a x) g b = cVal s g b) ∧ cVal (sI s (ei j) a x) (cEl k j) a = .int x := by
  rw [cEl_I hk]
  have h := pt_I (s := s) (a := a) (x := x) (cRef_ei j)
  exact ⟨h.1, h.2.1, h.2.2.1⟩
theorem pt_Re {s : cS} {k j a : Nat} {x : Option Nat} (hk : ¬ k < 22) : (cK (sR s (er j) a x) = cK s ∧ cL (sR s (er j) a x) = cL s ∧ cn (sR s (er j) a x) = cn s ∧ cz (sR s (er j) a x) = cz s) ∧ (∀ g b, ¬ (g = cEl k j ∧ b = a) → cVal (sR s (er j) a x) g b = cVal s g b) ∧ cVal (sR s (er j) a x) (cEl k j) a = vr x ∧ (vOk s (vr x) → ∀ g b u, cR (sR s (er j) a x) g b = some u → cR s g b = some u ∨ cK s u ≠ 0) := by
  rw [cEl_R hk]
  exact pt_R (cRef_er j)
theorem gc_iast (hC : cOk X Y own cc d) {a : Nat} {i x : Int32} (hk : cK s a = 20) (hin : cIn s a i) (hdg : decode cc pc = .ok (.iastore, 1)) (kk : GC X Y M F (sI s (ei i.toNatClampNeg) a x) (pc + 1) lv st) : GC X Y M F s pc lv (.int x :: .int i :: .ref a :: st) := by
  obtain ⟨⟨hK, hL, hn, hz⟩, hv, hw⟩ := pt_Ie (s := s) (k := 20) (j := i.toNatClampNeg) (a := a) (x := x) (by omega)
  refine gc_astW hC (w := .int x) hk (by omega) (by omega) hin hK hL hn hz hv hw (fun _ g b u h => Or.inl h) (fun ad H locs cells slots Q ls hH hRf hc k1 => ?_) kk
  obtain ⟨p, l, e, R, z, m, args, below, meth, c⟩ := X
  obtain ⟨⟨hx, hb, hown, hts, hlk⟩, hB, -⟩ := hC
  exact W.iast hx hb hc ((hB.1.2 0 _ rfl).1 _ _) (fun q => by cases q) (cIn_in hin) rfl rfl hdg k1
theorem gc_bast (hC : cOk X Y own cc d) {a : Nat} {i x : Int32} (hk : cK s a = 21) (hin : cIn s a i) (hdg : decode cc pc = .ok (.bastore, 1)) (kk : GC X Y M F (sI s (ei i.toNatClampNeg) a x.toInt8.toInt32) (pc + 1) lv st) : GC X Y M F s pc lv (.int x :: .int i :: .ref a :: st) := by
  obtain ⟨⟨hK, hL, hn, hz⟩, hv, hw⟩ := pt_Ie (s := s) (k := 21) (j := i.toNatClampNeg) (a := a) (x := x.toInt8.toInt32) (by omega)
  refine gc_astW hC (w := .int x.toInt8.toInt32) hk (by omega) (by omega) hin hK hL hn hz hv hw (fun _ g b u h => Or.inl h) (fun ad H locs cells slots Q ls hH hRf hc k1 => ?_) kk
  obtain ⟨p, l, e, R, z, m, args, below, meth, c⟩ := X
  obtain ⟨⟨hx, hb, hown, hts, hlk⟩, hB, -⟩ := hC
  exact W.bast hx hb hc ((hB.1.2 1 _ rfl).1 _ _) (fun q => by cases q) (cIn_in hin) rfl rfl hdg k1
theorem gc_astN (hC : cOk X Y own cc d) {a k : Nat} {i : Int32} {C : String} (hk : cK s a = k) (h1 : 22 ≤ k) (h2 : k < 24) {t0 : Nat} (ht : (cTys Y)[t0]? = some (Y.2.1 k, .object C)) (hin : cIn s a i) (hdg : decode cc pc = .ok (.aastore, 1)) (kk : GC X Y M F (sR s (er i.toNatClampNeg) a none) (pc + 1) lv st) : GC X Y M F s pc lv (.null :: .int i :: .ref a :: st) := by
  obtain ⟨⟨hK, hL, hn, hz⟩, hv, hw, hR⟩ := pt_Re (s := s) (k := k) (j := i.toNatClampNeg) (a := a) (x := none) (by omega)
  refine gc_astW hC (w := .null) hk (by omega) (by omega) hin hK hL hn hz hv hw hR (fun ad H locs cells slots Q ls hH hRf hc k1 => ?_) kk
  obtain ⟨p, l, e, R, z, m, args, below, meth, c⟩ := X
  obtain ⟨⟨hx, hb, hown, hts, hlk⟩, hB, -⟩ := hC
  exact va_WaastN (C := C) hx hb hc ((hB.1.2 t0 _ ht).1 _ _) (fun q => by cases q) (cIn_in hin) rfl rfl hdg k1
/-- an Actor into an Actor[] -/
theorem gc_astA (hC : cOk X Y own cc d) {a v : Nat} {i : Int32} (hk : cK s a = 23) (hvk : cK s v = 5) (hin : cIn s a i) (hdg : decode cc pc = .ok (.aastore, 1)) (kk : GC X Y M F (sR s (er i.toNatClampNeg) a (some v)) (pc + 1) lv st) : GC X Y M F s pc lv (.ref v :: .int i :: .ref a :: st) := by
  obtain ⟨⟨hK, hL, hn, hz⟩, hv, hw, hR⟩ := pt_Re (s := s) (k := 23) (j := i.toNatClampNeg) (a := a) (x := some v) (by omega)
  refine gc_astW hC (w := .ref v) hk (by omega) (by omega) hin hK hL hn hz hv hw hR (fun ad H locs cells slots Q ls hH hRf hc k1 => ?_) kk
  obtain ⟨cellV, g1, g2, g3, -⟩ := hH.obj (ci := 4) hvk rfl
  obtain ⟨p, l, e, R, z, m, args, below, meth, c⟩ := X
  obtain ⟨⟨hx, hb, hown, hts, hlk⟩, hB, -⟩ := hC
  have hcls := (hB.1.1 4 _ rfl).2
  obtain ⟨kA, comp, k1', k2, k3, -⟩ := (hB.1.2 3 _ rfl).2
  have hcomp : comp = Y.1.1 4 := Option.some.inj (k3.symm.trans hcls.1)
  subst hcomp
  obtain ⟨kC, hkC, -⟩ := hcls.2
  exact W.aast (v := ad v) hx hb hc (fun q h => by cases h) (fun h => by cases h) k1' k2 rfl hkC ⟨hin.1, by rw [arrV_size]; exact hin.2⟩ g1 (fun q h => by rw [g3] at h; cases h) (by rw [g2]; exact hkC) (by rw [g2]; exact va_assign hcls) rfl rfl hdg k1
end GCX
