/-! writes of the component's heap -/
theorem cFl_inj : ∀ ci, ci < 17 → ∀ j, j < (cFs.getD ci []).length → ∀ k, k < (cFs.getD ci []).length → cFl ci j = cFl ci k → j = k := by decide +kernel
theorem ccl_len : ∀ ci, ci < 17 → ∀ r : vw_C, ccl[ci]? = some r → (cFs.getD ci []).length = r.2.2 := by
  intro ci hci r h
  have : ∀ ci, ci < 17 → (ccl[ci]?).map (fun r => r.2.2) = some ((cFs.getD ci []).length) := by decide +kernel
  have h2 := this ci hci
  rw [h] at h2
  exact (Option.some.inj h2).symm
theorem cFl_small : ∀ ci, ci < 17 → ∀ k, k < (cFs.getD ci []).length → cFl ci k < 900 := by decide +kernel
theorem vr_inj {x y : Option Nat} (h : vr x = vr y) : x = y := by
  cases x <;> cases y <;> first | rfl | (cases h; rfl) | cases h
theorem cVal_vr {s s1 : cS} {g b : Nat} (hg : cRef g = true) (h : cVal s1 g b = cVal s g b) : cR s1 g b = cR s g b := by
  unfold cVal at h
  rw [if_pos hg, if_pos hg] at h
  exact vr_inj h
/-- what a write of field f of the object a leaves: s1 -/
theorem cH_wr {Y : cY} {ad : Nat → Nat} {s s1 : cS} {H H1 : Heap} {a : Nat} (h : cH Y ad s H) (hK : cK s1 = cK s) (hL : cL s1 = cL s) (hn : cn s1 = cn s) (hv : ∀ g b, b ≠ a → cVal s1 g b = cVal s g b) (hR : ∀ g b u, cR s1 g b = some u → cR s g b = some u ∨ cK s u ≠ 0) (ha : cK s a ≠ 99) (hz : H1.size = H.size) (ho : ∀ q, q ≠ ad a → H1[q]? = H[q]?) (hA : Y.2.2.2.1 (ad a)) (hYA : ∀ q, q < Y.2.2.2.2.size → ¬ Y.2.2.2.1 q) (hk0 : cK s a ≠ 0) (hat : cAt Y ad s1 a H1) : cH Y ad s1 H1 := by
  obtain ⟨c1, c2, c3, c4, c5, c6⟩ := h
  have hne9 : a ≠ 299 := fun e => hk0 (by rw [e]; exact c1.1.2.1)
  refine ⟨⟨⟨by rw [hn]; exact c1.1.1, by rw [hK]; exact c1.1.2.1, (cVal_vr rfl (hv 52 299 hne9.symm)).trans c1.1.2.2.1, (cVal_vr rfl (hv 53 299 hne9.symm)).trans c1.1.2.2.2.1, fun f u hu => ?_⟩, by rw [hn, hK]; exact c1.2⟩, by rw [hK]; exact c2, fun b hb => ?_, by rw [hK]; exact c4, fun f b u hb hx => ?_, ⟨by rw [hz]; exact c6.1, fun q hq => ?_, by rw [hz]; exact c6.2.2⟩⟩
  · rw [hK]
    rcases hR f 299 u hu with q | q
    · exact c1.1.2.2.2.2 f u q
    · exact q
  · rw [hK] at hb
    refine ⟨by rw [hz]; exact (c3 b hb).1, ?_⟩
    by_cases e : b = a
    · rw [e]; exact hat
    · have hc := (c3 b hb).2
      by_cases h99 : cK s b = 99
      · unfold cAt; rw [hK, if_pos h99]; trivial
      · have hne : ad b ≠ ad a := fun q => e (c2 b a hb hk0 h99 ha q)
        have hcv : ∀ g, cVal s1 g b = cVal s g b := fun g => hv g b e
        unfold cAt at hc ⊢
        rw [hK, hL, ho _ hne]
        simp only [hcv]
        exact hc
  · rw [hK] at hb ⊢
    rcases hR f b u hx with q | q
    · exact c5 f b u hb q
    · exact q
  · rw [ho q (fun e => hYA q hq (by rw [e]; exact hA))]
    exact c6.2.1 q hq
theorem cI_sI {s : cS} {f a g b : Nat} {x : Int32} : cI (sI s f a x) g b = if g = f ∧ b = a then x else cI s g b := rfl
theorem cR_sI {s : cS} {f a : Nat} {x : Int32} : cR (sI s f a x) = cR s := rfl
theorem cR_sR {s : cS} {f a g b : Nat} {x : Option Nat} : cR (sR s f a x) g b = if g = f ∧ b = a then x else cR s g b := rfl
theorem cI_sR {s : cS} {f a : Nat} {x : Option Nat} : cI (sR s f a x) = cI s := rfl
theorem cVal_sI {s : cS} {f a g b : Nat} {x : Int32} : cVal (sI s f a x) g b = if g = f ∧ b = a then (if cRef g then vr (cR s g b) else .int x) else cVal s g b := by
  unfold cVal
  rw [cI_sI, cR_sI]
  by_cases e : g = f ∧ b = a
  · rw [if_pos e, if_pos e]
  · rw [if_neg e, if_neg e]
theorem cVal_sR {s : cS} {f a g b : Nat} {x : Option Nat} : cVal (sR s f a x) g b = if g = f ∧ b = a then (if cRef g then vr x else .int (cI s g b)) else cVal s g b := by
  unfold cVal
  rw [cI_sR, cR_sR]
  by_cases e : g = f ∧ b = a
  · rw [if_pos e, if_pos e]
  · rw [if_neg e, if_neg e]
/-- an object's field written: the new picture -/
theorem cAt_put {Y : cY} {ad : Nat → Nat} {s s1 : cS} {H1 : Heap} {a ci j : Nat} {r : vw_C} {cell : Cell} {w : Value} (hk : cK s a = ci + 1) (hr : ccl[ci]? = some r) (hj : j < r.2.2) (hK : cK s1 = cK s) (hv : ∀ g, g ≠ cFl ci j → cVal s1 g a = cVal s g a) (hw : cVal s1 (cFl ci j) a = w)
    (hap : ∀ x y, x < r.2.2 → y < r.2.2 → x ≠ y → Y.1.2 ci x ≠ Y.1.2 ci y) (q2 : cell.cls = Y.1.1 ci) (q3 : cell.vm = .none) (q5 : cell.monitor = {}) (q4 : ∀ k, k < r.2.2 → cell.slots[Y.1.2 ci k]? = some (tv ad (cVal s (cFl ci k) a))) (e1 : H1[ad a]? = some (cell.setSlot (Y.1.2 ci j) (tv ad w))) : cAt Y ad s1 a H1 := by
  have hlt := ccl_lt hr
  unfold cAt
  rw [hK, if_neg (by rw [hk]; omega), if_pos (by rw [hk]; omega), hk, Nat.add_sub_cancel]
  refine ⟨r, hr, _, e1, q2, q3, q5, fun k hk2 => ?_⟩
  have hs : (cell.setSlot (Y.1.2 ci j) (tv ad w)).slots = cell.slots.setIfInBounds (Y.1.2 ci j) (tv ad w) := rfl
  rw [hs, Array.getElem?_setIfInBounds]
  by_cases e : k = j
  · subst e
    have hl : Y.1.2 ci k < cell.slots.size := (Array.getElem?_eq_some_iff.mp (q4 k hj)).1
    rw [if_pos rfl, if_pos hl, hw]
  · rw [if_neg (hap j k hj hk2 (Ne.symm e)), q4 k hk2, hv]
    intro he
    exact e (cFl_inj ci hlt k (by rw [ccl_len ci hlt r hr]; exact hk2) j (by rw [ccl_len ci hlt r hr]; exact hj) he)
theorem cA_of {Y : cY} {ad : Nat → Nat} {s : cS} {H : Heap} {a : Nat} (h : cH Y ad s H) (h0 : cK s a ≠ 0) (h1 : cK s a ≠ 17 ∨ 300 ≤ a) (h2 : cK s a < 24) : Y.2.2.2.1 (ad a) := by
  rcases (h.2.2.2.1 a h0).2 (by omega) with q | ⟨q0, q⟩
  · exact q
  · omega
section GCP
variable {α : Type} {X : gCx} {Y : cY} {M : cMd α} {F : Option (α × cS)} {s s1 : cS} {pc pc' d : Nat} {lv lv' : List (Nat × Value)} {st st' : List Value} {own : String} {cc : ByteArray}
/-- the facts that a putfield stands on -/
theorem gc_putW (hC : cOk X Y own cc d) {ci j a : Nat} {C : String} {T : u_T} {N : Nat} {w : Value} {ty : FieldType} (tys : Nat → FieldType) (hty : ∀ k, k < N → parseFieldDescriptor (T k).2.2.1 = some (tys k)) (hnm : ∀ a, a < N → ∀ b, b < N → a ≠ b → (T a).2.1 ≠ (T b).2.1) (hk : cK s a = ci + 1) (hci : ci ≠ 16 ∨ 300 ≤ a) (hr : ccl[ci]? = some (C, T, N)) (hj : j < N) (hin : ∀ w ∈ u_ws C T N, w ∈ lw_all)
    (hd : parseFieldDescriptor (T j).2.2.1 = some ty) (hn : ∀ ad : Nat → Nat, narrow ty (tv ad w) = tv ad w) (hfit : ∀ ad : Nat → Nat, fits ty (tv ad w) = true)
    (hK : cK s1 = cK s) (hL : cL s1 = cL s) (hn1 : cn s1 = cn s) (hz1 : cz s1 = cz s) (hv : ∀ g b, ¬ (g = cFl ci j ∧ b = a) → cVal s1 g b = cVal s g b) (hw : cVal s1 (cFl ci j) a = w) (hR : vOk s w → ∀ g b u, cR s1 g b = some u → cR s g b = some u ∨ cK s u ≠ 0)
    (row : ∀ (ad : Nat → Nat) (H : Heap) (locs : List Loc) (cells slots : Nat) (Q : State → Prop) (ls : Array Slot) (cell : Cell), H[ad a]? = some cell → cell.cls = Y.1.1 ci → cell.vm = .none → (∀ k, k < N → cell.slots[Y.1.2 ci k]? = some (tv ad (cVal s (cFl ci k) a))) → (∀ H' : Heap, H'[ad a]? = some (cell.setSlot (Y.1.2 ci j) (tv ad w)) → H'.size = H.size → (∀ q, q ≠ ad a → H'[q]? = H[q]?) → gW X H' (locs ++ [⟨ad a, Y.1.2 ci j⟩]) cells slots Q (F0 (gMe X) (pc + 3) ls (st.map (tv ad)))) → gW X H locs cells slots Q (F0 (gMe X) pc ls (tv ad w :: .ref (ad a) :: st.map (tv ad))))
    (k : GC X Y M F s1 (pc + 3) lv st) : GC X Y M F s pc lv (w :: .ref a :: st) := by
  refine gc_wr hn1 hz1 hK (fun ad H locs cells slots Q ls hH hRf hS g kk => ?_) (fun h => h.tail.tail) k
  obtain ⟨cell, q1, q2, q3, q5, q4⟩ := hH.obj hk hr
  have hap := va_apart (own := own) (s := gSt X) (args := X.2.2.2.2.2.2.1) (by obtain ⟨p, l, e, R, z, m, args, below, meth, c⟩ := X; exact hC.1.2.2.2.1) hin tys hty hnm hC.2.1.1 hr
  refine row ad H locs cells slots Q ls cell q1 q2 q3 q4 fun H' e1 e2 e3 => ?_
  have hlt := ccl_lt hr
  have hA : Y.2.2.2.1 (ad a) := cA_of hH (by rw [hk]; omega) (hci.elim (fun q => Or.inl (by rw [hk]; omega)) Or.inr) (by rw [hk]; omega)
  refine kk H' _ ?_ (hS.put e2 e3 hA)
  exact cH_wr hH hK hL hn1 (fun g b hb => hv g b (fun q => hb q.2)) (hR hRf.head) (by rw [hk]; omega) e2 e3 hA hC.2.2.2.2.2.2.2 (by rw [hk]; omega) (cAt_put hk hr hj hK (fun g hg => hv g a (fun q => hg q.1)) hw hap q2 q3 q5 q4 e1)
theorem hasslot_of {cell : Cell} {i : Nat} {v : Value} (h : cell.slots[i]? = some v) : i < cell.slots.size := (Array.getElem?_eq_some_iff.mp h).1
theorem gc_put (hC : cOk X Y own cc d) {ci j index a : Nat} {C ref : String} {T : u_T} {N : Nat} {w : Value} {ty : FieldType} (tys : Nat → FieldType) (hty : ∀ k, k < N → parseFieldDescriptor (T k).2.2.1 = some (tys k)) (hnm : ∀ a, a < N → ∀ b, b < N → a ≠ b → (T a).2.1 ≠ (T b).2.1) (hk : cK s a = ci + 1) (hdg : decode cc pc = .ok (.putfield index, 3)) (hci : ci ≠ 16 ∨ 300 ≤ a) (hr : ccl[ci]? = some (C, T, N)) (hj : j < N) (hin : ∀ w ∈ u_ws C T N, w ∈ lw_all)
    (hlink : Cond.fieldLink own index ref (T j).2.1 (T j).2.2.1 ∈ lw_all) (hsame : ∀ x, (gSt X).fieldFound? (T j).1 (T j).2.1 (T j).2.2.1 = some x → (gSt X).fieldFound? ref (T j).2.1 (T j).2.2.1 = some x) (hfin : (T j).2.2.2 = false)
    (hd : parseFieldDescriptor (T j).2.2.1 = some ty) (hn : ∀ ad : Nat → Nat, narrow ty (tv ad w) = tv ad w) (hfit : ∀ ad : Nat → Nat, fits ty (tv ad w) = true)
    (hK : cK s1 = cK s) (hL : cL s1 = cL s) (hn1 : cn s1 = cn s) (hz1 : cz s1 = cz s) (hv : ∀ g b, ¬ (g = cFl ci j ∧ b = a) → cVal s1 g b = cVal s g b) (hw : cVal s1 (cFl ci j) a = w) (hR : vOk s w → ∀ g b u, cR s1 g b = some u → cR s g b = some u ∨ cK s u ≠ 0)
    (k : GC X Y M F s1 (pc + 3) lv st) : GC X Y M F s pc lv (w :: .ref a :: st) := by
  refine gc_putW hC tys hty hnm hk hci hr hj hin hd hn hfit hK hL hn1 hz1 hv hw hR (fun ad H locs cells slots Q ls cell q1 q2 q3 q4 kk => ?_) k
  obtain ⟨p, l, e, R, z, m, args, below, meth, c⟩ := X
  obtain ⟨⟨hx, hb, hown, hts, hlk⟩, hB, -⟩ := hC
  obtain ⟨hS, hfc, kC, hkC, hkind⟩ := hB.1.1 ci _ hr
  obtain ⟨cf, kf, fi, f, hi, hsl⟩ := hS j hj
  have hlay := hts _ (hin _ (u_in_lay hj))
  unfold u_lay at hlay
  rw [if_neg (by rw [hfin]; decide)] at hlay
  have hst := (u_facts hfc hkC (u_lays hts hin hj) hi).1
  have h6 := u_store hfc hkC hkind hlay hi hd (hn ad) (hfit ad)
  refine W.putK (a := ad a) hx hb (f := f) ⟨hown, hts _ hlink, ⟨_, _, _, hsame _ hi⟩, hst⟩ (by rw [q2]; exact h6) q1 q3 (by rw [hsl]; exact hasslot_of (q4 j hj)) rfl rfl hdg fun H' e1 e2 e3 => ?_
  rw [hsl] at e1 ⊢
  exact kk H' e1 e2 e3
theorem gc_putN (hC : cOk X Y own cc d) {ci j index a : Nat} {C ref host : String} {T : u_T} {N : Nat} {w : Value} {ty : FieldType} (tys : Nat → FieldType) (hty : ∀ k, k < N → parseFieldDescriptor (T k).2.2.1 = some (tys k)) (hnm : ∀ a, a < N → ∀ b, b < N → a ≠ b → (T a).2.1 ≠ (T b).2.1) (hk : cK s a = ci + 1) (hdg : decode cc pc = .ok (.putfield index, 3)) (hci : ci ≠ 16 ∨ 300 ≤ a) (hr : ccl[ci]? = some (C, T, N)) (hj : j < N) (hin : ∀ w ∈ u_ws C T N, w ∈ lw_all)
    (hlink : Cond.fieldLinkNest own index ref (T j).2.1 (T j).2.2.1 host ∈ lw_tbl) (hsame : ∀ x, (gSt X).fieldFound? (T j).1 (T j).2.1 (T j).2.2.1 = some x → (gSt X).fieldFound? ref (T j).2.1 (T j).2.2.1 = some x) (hfin : (T j).2.2.2 = false)
    (hd : parseFieldDescriptor (T j).2.2.1 = some ty) (hn : ∀ ad : Nat → Nat, narrow ty (tv ad w) = tv ad w) (hfit : ∀ ad : Nat → Nat, fits ty (tv ad w) = true)
    (hK : cK s1 = cK s) (hL : cL s1 = cL s) (hn1 : cn s1 = cn s) (hz1 : cz s1 = cz s) (hv : ∀ g b, ¬ (g = cFl ci j ∧ b = a) → cVal s1 g b = cVal s g b) (hw : cVal s1 (cFl ci j) a = w) (hR : vOk s w → ∀ g b u, cR s1 g b = some u → cR s g b = some u ∨ cK s u ≠ 0)
    (k : GC X Y M F s1 (pc + 3) lv st) : GC X Y M F s pc lv (w :: .ref a :: st) := by
  refine gc_putW hC tys hty hnm hk hci hr hj hin hd hn hfit hK hL hn1 hz1 hv hw hR (fun ad H locs cells slots Q ls cell q1 q2 q3 q4 kk => ?_) k
  obtain ⟨p, l, e, R, z, m, args, below, meth, c⟩ := X
  obtain ⟨⟨hx, hb, hown, hts, hlk⟩, hB, -⟩ := hC
  obtain ⟨hS, hfc, kC, hkC, hkind⟩ := hB.1.1 ci _ hr
  obtain ⟨cf, kf, fi, f, hi, hsl⟩ := hS j hj
  have hlay := hts _ (hin _ (u_in_lay hj))
  unfold u_lay at hlay
  rw [if_neg (by rw [hfin]; decide)] at hlay
  have hst := (u_facts hfc hkC (u_lays hts hin hj) hi).1
  have h6 := u_store hfc hkC hkind hlay hi hd (hn ad) (hfit ad)
  refine va_WputK (a := ad a) hx hb (f := f) hown (va_Nw.use rfl (hB.2.1.1 _ _ _ _ _ _ hlink)) (hsame _ hi) hst (by rw [q2]; exact h6) q1 q3 (by rw [hsl]; exact hasslot_of (q4 j hj)) rfl rfl hdg fun H' e1 e2 e3 => ?_
  rw [hsl] at e1 ⊢
  exact kk H' e1 e2 e3
theorem gc_putF (hC : cOk X Y own cc d) {ci j index a : Nat} {C ref : String} {T : u_T} {N : Nat} {w : Value} {ty : FieldType} (tys : Nat → FieldType) (hty : ∀ k, k < N → parseFieldDescriptor (T k).2.2.1 = some (tys k)) (hnm : ∀ a, a < N → ∀ b, b < N → a ≠ b → (T a).2.1 ≠ (T b).2.1) (hk : cK s a = ci + 1) (hdg : decode cc pc = .ok (.putfield index, 3)) (hci : ci ≠ 16 ∨ 300 ≤ a) (hr : ccl[ci]? = some (C, T, N)) (hj : j < N) (hin : ∀ w ∈ u_ws C T N, w ∈ lw_all)
    (hlink : Cond.fieldLink own index ref (T j).2.1 (T j).2.2.1 ∈ lw_all) (hsame : ∀ x, (gSt X).fieldFound? (T j).1 (T j).2.1 (T j).2.2.1 = some x → (gSt X).fieldFound? ref (T j).2.1 (T j).2.2.1 = some x) (hfin : (T j).2.2.2 = true) (hini : X.2.2.2.2.2.2.2.2.1.name = "<init>") (hdecl : (T j).1 = own)
    (hd : parseFieldDescriptor (T j).2.2.1 = some ty) (hn : ∀ ad : Nat → Nat, narrow ty (tv ad w) = tv ad w) (hfit : ∀ ad : Nat → Nat, fits ty (tv ad w) = true)
    (hK : cK s1 = cK s) (hL : cL s1 = cL s) (hn1 : cn s1 = cn s) (hz1 : cz s1 = cz s) (hv : ∀ g b, ¬ (g = cFl ci j ∧ b = a) → cVal s1 g b = cVal s g b) (hw : cVal s1 (cFl ci j) a = w) (hR : vOk s w → ∀ g b u, cR s1 g b = some u → cR s g b = some u ∨ cK s u ≠ 0)
    (k : GC X Y M F s1 (pc + 3) lv st) : GC X Y M F s pc lv (w :: .ref a :: st) := by
  refine gc_putW hC tys hty hnm hk hci hr hj hin hd hn hfit hK hL hn1 hz1 hv hw hR (fun ad H locs cells slots Q ls cell q1 q2 q3 q4 kk => ?_) k
  obtain ⟨p, l, e, R, z, m, args, below, meth, c⟩ := X
  obtain ⟨⟨hx, hb, hown, hts, hlk⟩, hB, -⟩ := hC
  obtain ⟨hS, hfc, kC, hkC, hkind⟩ := hB.1.1 ci _ hr
  obtain ⟨cf, kf, fi, f, hi, hsl⟩ := hS j hj
  have hlay := hts _ (hin _ (u_in_lay hj))
  unfold u_lay at hlay
  rw [if_pos hfin] at hlay
  have hst := (u_facts hfc hkC (u_lays hts hin hj) hi).1
  have hcf : m.cls = cf := by
    obtain ⟨_, _, c', _, _, _, -, -, hf', -, -, -, hown2, -⟩ := Cond.laysFinal_spec hlay
    have e1 : c' = cf := by have := hi.symm.trans hf'; simp at this; exact this.1.symm
    rw [hdecl] at hown2
    rw [← e1]; exact Option.some.inj (hown.symm.trans hown2)
  have h6 := u_fits hfc hkC hkind (Or.inr hlay) hi hd (hn ad) (hfit ad)
  refine W.putFinK (a := ad a) hx hb hown (hts _ hlink) (hsame _ hi) hst hcf hini (by rw [q2]; exact h6) q1 q3 (by rw [hsl]; exact hasslot_of (q4 j hj)) rfl rfl hdg fun H' e1 e2 e3 => ?_
  rw [hsl] at e1 ⊢
  exact kk H' e1 e2 e3
/-- an int field, a reference field: what gc_put asks of the new state -/
theorem pt_I {s : cS} {f a : Nat} {x : Int32} (hf : cRef f = false) : (cK (sI s f a x) = cK s ∧ cL (sI s f a x) = cL s ∧ cn (sI s f a x) = cn s ∧ cz (sI s f a x) = cz s) ∧ (∀ g b, ¬ (g = f ∧ b = a) → cVal (sI s f a x) g b = cVal s g b) ∧ cVal (sI s f a x) f a = .int x ∧ (vOk s (.int x) → ∀ g b u, cR (sI s f a x) g b = some u → cR s g b = some u ∨ cK s u ≠ 0) := by
  refine ⟨⟨rfl, rfl, rfl, rfl⟩, fun g b h => by rw [cVal_sI, if_neg h], by rw [cVal_sI, if_pos ⟨rfl, rfl⟩, hf]; rfl, fun _ g b u h => Or.inl h⟩
theorem pt_R {s : cS} {f a : Nat} {x : Option Nat} (hf : cRef f = true) : (cK (sR s f a x) = cK s ∧ cL (sR s f a x) = cL s ∧ cn (sR s f a x) = cn s ∧ cz (sR s f a x) = cz s) ∧ (∀ g b, ¬ (g = f ∧ b = a) → cVal (sR s f a x) g b = cVal s g b) ∧ cVal (sR s f a x) f a = vr x ∧ (vOk s (vr x) → ∀ g b u, cR (sR s f a x) g b = some u → cR s g b = some u ∨ cK s u ≠ 0) := by
  refine ⟨⟨rfl, rfl, rfl, rfl⟩, fun g b h => by rw [cVal_sR, if_neg h], by rw [cVal_sR, if_pos ⟨rfl, rfl⟩, hf]; rfl, fun hx g b u h => ?_⟩
  rw [cR_sR] at h
  by_cases e : g = f ∧ b = a
  · rw [if_pos e] at h
    rw [h] at hx
    exact Or.inr hx
  · rw [if_neg e] at h; exact Or.inl h
end GCP
