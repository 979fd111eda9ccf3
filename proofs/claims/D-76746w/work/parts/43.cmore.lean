/-! more rows: long compare, arrays' copies, objects into Object[], the cache of Integers, the empty string -/
theorem lv_lcmp {p : Program} {l : Launch} {e : Env} {R : Room} {s : State} {m : MethodId} {args : Array Value} {below : List Frame} {meth : Method} {c : Code} {H : Heap} {locs : List Loc} {cells slots : Nat} {Q : State → Prop} {cc : ByteArray} {pc : Nat} {ls : Array Slot} {rest : List Value} (hexec : p.tables.exec = Jvm.exec) (hb : c.code = cc) {x y : Int64} (hdg : decode cc pc = .ok (.lcmp, 1))
    (k : W p l e R s m args below meth c H locs cells slots Q (F0 m (pc + 1) ls (.int (if y < x then 1 else if x = y then 0 else -1) :: rest))) : W p l e R s m args below meth c H locs cells slots Q (F0 m pc ls (.long y :: .long x :: rest)) := by
  intro T hT X
  obtain ⟨t, a, b⟩ := k T hT X
  refine ⟨t, ?_, b⟩
  jvm_step X.here [X.here.top, hexec, hb, hdg]
  by_cases h1 : x > y
  · have h1' : y < x := h1
    simp only [h1, if_true] at a ⊢
    exact a
  · have h1' : ¬ y < x := h1
    by_cases h2 : x = y
    · subst h2
      simp [h1'] at a ⊢
      exact a
    · simp [h1', h2] at a ⊢
      exact a
/-- n ints of array a from sp on go to array b from dp on -/
def sCp (s : cS) (a b sp dp n : Nat) : cS := (cK s, cL s, fun g z => if z = b ∧ 1000 ≤ g ∧ g % 2 = 0 ∧ dp ≤ (g - 1000) / 2 ∧ (g - 1000) / 2 < dp + n then cI s (ei (sp + ((g - 1000) / 2 - dp))) a else cI s g z, cR s, cn s, cz s)
theorem cMo_sCp {s : cS} {a b sp dp n : Nat} : cMo s (sCp s a b sp dp n) := ⟨Nat.le_refl _, Nat.le_refl _, fun _ _ => rfl⟩
theorem sCp_ei {s : cS} {a b sp dp n j : Nat} : cI (sCp s a b sp dp n) (ei j) b = if dp ≤ j ∧ j < dp + n then cI s (ei (sp + (j - dp))) a else cI s (ei j) b := by
  have e1 : (ei j - 1000) / 2 = j := by unfold ei; omega
  have e2 : ei j % 2 = 0 := by unfold ei; omega
  have e3 : 1000 ≤ ei j := by unfold ei; omega
  show (if b = b ∧ 1000 ≤ ei j ∧ ei j % 2 = 0 ∧ dp ≤ (ei j - 1000) / 2 ∧ (ei j - 1000) / 2 < dp + n then cI s (ei (sp + ((ei j - 1000) / 2 - dp))) a else cI s (ei j) b) = _
  rw [e1, e2]
  by_cases h : dp ≤ j ∧ j < dp + n
  · rw [if_pos h, if_pos ⟨rfl, e3, rfl, h⟩]
  · rw [if_neg h, if_neg (fun q => h q.2.2.2)]
/-- System.arraycopy of ints: the heap behind it -/
theorem va_copyH {p : Program} {l : Launch} {e : Env} {R : Room} {s : State} {m : MethodId} {args : Array Value} {below : List Frame} {meth : Method} {c : Code} {H : Heap} {locs : List Loc} {cells slots : Nat} {Q : State → Prop} {cc : ByteArray} {pc : Nat} {ls : Array Slot} {rest : List Value} {a a0 : Nat} (hexec : p.tables.exec = Jvm.exec) (hb : c.code = cc) (hml : c.maxLocals = ls.size) {own : String} {index : Nat} (hown : s.vm.findClass own = some m.cls) (hlink : (Cond.methodLink own index arraycopyName).before args s = true) (hnat : (Cond.native arraycopyName).before args s = true) (hstat : (Cond.static arraycopyName).before args s = true) (hini : (Cond.initialized "java/lang/System").before args s = true)
    {c0 : ClassId} {n0 n1 : Nat} {f g : Nat → Int32} (hA0 : ArrOfT s c0 .int) (hc0 : H[a0]? = some (arrV c0 n0 fun j => .int (f j))) (hc1 : H[a]? = some (arrV c0 n1 fun j => .int (g j)))
    {sp dp n : Int32} (h1 : ¬ sp < 0) (h2 : ¬ dp < 0) (h3 : ¬ n < 0) (h4 : sp.toNatClampNeg + n.toNatClampNeg ≤ n0) (h5 : dp.toNatClampNeg + n.toNatClampNeg ≤ n1)
    (hframes : 1 ≤ R.frames) (hlocals : (rest.map fun v => v.category).sum + (nativeFrameWords "java/lang/System" "arraycopy" 5 + 11) ≤ R.locals) (hdg : decode cc pc = .ok (.invokestatic index, 3))
    (kk : ∀ (H1 : Heap) (L : List Loc), H1[a]? = some (arrV c0 n1 fun j => .int (va_cpy f g sp.toNatClampNeg dp.toNatClampNeg n.toNatClampNeg j)) → H1.size = H.size → (∀ q, q ≠ a → H1[q]? = H[q]?) → (∀ q ∈ L, q.base = a) → W p l e R s m args below meth c H1 (locs ++ L) cells slots Q (F0 m (pc + 3) ls rest)) : W p l e R s m args below meth c H locs cells slots Q (F0 m pc ls (.int n :: .int dp :: .ref a :: .int sp :: .ref a0 :: rest)) := by
  have nn : ∀ z : Int32, ¬ z < 0 → z.toInt = (z.toNatClampNeg : Int) := by
    intro z hz
    have hz0 : (0 : Int) ≤ z.toInt := by
      have := Int32.not_lt.mp hz
      simpa using Int32.le_iff_toInt_le.mp this
    show z.toInt = ((z.toInt.toNat : Nat) : Int)
    omega
  intro T hT X
  obtain ⟨-, k0, hk0, cm0, hkk0⟩ := hA0 n0 (fun j => .int (f j))
  obtain ⟨-, k1, hk1, cm1, hkk1⟩ := hA0 n1 (fun j => .int (g j))
  obtain ⟨vm', X', step⟩ := X.arraycopy hexec hown hlink hnat hstat hini (src := a0) (dst := a) (cs := arrV c0 n0 fun j => .int (f j)) (cd := arrV c0 n1 fun j => .int (g j)) (srcPos := sp) (destPos := dp) (n := n) (by rw [hT]; exact hc0) (by rw [hT]; exact hc1)
    (fun _ h => by cases h) (fun _ h => by cases h) (fun h => by cases h) (fun h => by cases h) hk0 hk1 hkk0 hkk1 (by simp [refKind]) h1 h2 h3
    (by rw [nn sp h1, nn n h3]; show ¬ _ > ((arrV c0 n0 (fun j => .int (f j))).slots.size : Int); rw [arrV_size]; omega)
    (by rw [nn dp h2, nn n h3]; show ¬ _ > ((arrV c0 n1 (fun j => .int (g j))).slots.size : Int); rw [arrV_size]; omega)
    (fun vm₁ _ i hi => by
      have e : (arrV c0 n0 (fun j => Value.int (f j))).slots.getD (sp.toNatClampNeg + i) .null = .int (f (sp.toNatClampNeg + i)) := by
        rw [Array.getD_eq_getD_getElem?, arrV_read _ _ (by omega)]
        rfl
      refine ⟨?_, ?_⟩
      · rw [e]; rfl
      · rw [e]; exact trivial)
    (g := F0 m pc ls (.int n :: .int dp :: .ref a :: .int sp :: .ref a0 :: rest)) rfl (by rw [hml]) (rest := rest) rfl (by rw [hb]; exact hdg) hframes (by show 2 * 0 + _ + _ ≤ _; omega)
  have e1 : copied (arrV c0 n0 fun j => .int (f j)) (arrV c0 n1 fun j => .int (g j)) sp dp n = arrV c0 n1 fun j => .int (va_cpy f g sp.toNatClampNeg dp.toNatClampNeg n.toNatClampNeg j) := va_copied (fun z => .int z) c0 c0 f g h4
  rw [e1] at X' step
  have hl : a < H.size := (Array.getElem?_eq_some_iff.mp hc1).1
  generalize hD : (arrV c0 n1 fun j => Value.int (va_cpy f g sp.toNatClampNeg dp.toNatClampNeg n.toNatClampNeg j)) = D at *
  have hheap : ((T.setVm vm').setCell a D).heap = H.setIfInBounds a D := by rw [← hT]; rfl
  obtain ⟨t, a1, b1⟩ := kk _ _ (show (H.setIfInBounds a D)[a]? = some D by simp [Array.getElem?_setIfInBounds, hl]) (by simp) (fun q hq => by simp [Array.getElem?_setIfInBounds, Ne.symm hq]) (fun q hq => by
      obtain ⟨z, -, hz⟩ := List.mem_map.mp hq
      rw [← hz]) _ hheap X'
  exact ⟨t, step t a1, b1⟩
section GCM
variable {α : Type} {X : gCx} {Y : cY} {M : cMd α} {F : Option (α × cS)} {s : cS} {pc d index a b ci : Nat} {lv : List (Nat × Value)} {st : List Value} {own nm : String} {cc : ByteArray} {r : vw_C}
theorem gc_lcmp (hC : gOk X own cc) {x y : Int64} (hdg : decode cc pc = .ok (.lcmp, 1)) (kk : GC X Y M F s (pc + 1) lv (.int (if y < x then 1 else if x = y then 0 else -1) :: st)) : GC X Y M F s pc lv (.long y :: .long x :: st) := by
  obtain ⟨p, l, e, R, z, m, args, below, meth, c⟩ := X
  exact gc_go (lv' := lv) (st' := .int (if y < x then 1 else if x = y then 0 else -1) :: st) (fun ad H locs cells slots Q ls g k => lv_lcmp hC.1 hC.2.1 hdg (k ls g)) (fun h => h.tail.tail.cons trivial) kk
/-- an object into an Object[] -/
theorem gc_astO (hC : cOk X Y own cc d) {v : Nat} {i : Int32} (hk : cK s a = 22) (hvk : cK s v = ci + 1) (hr : ccl[ci]? = some r) (wc : Cond.castable r.1 "java/lang/Object" ∈ lw_tbl) (hin : cIn s a i) (hdg : decode cc pc = .ok (.aastore, 1)) (kk : GC X Y M F (sR s (er i.toNatClampNeg) a (some v)) (pc + 1) lv st) : GC X Y M F s pc lv (.ref v :: .int i :: .ref a :: st) := by
  obtain ⟨⟨hK, hL, hn, hz⟩, hv, hw, hR⟩ := pt_Re (s := s) (k := 22) (j := i.toNatClampNeg) (a := a) (x := some v) (by omega)
  refine gc_astW hC (w := .ref v) hk (by omega) (by omega) hin hK hL hn hz hv hw hR (fun ad H locs cells slots Q ls hH hRf hc k1 => ?_) kk
  obtain ⟨cellV, g1, g2, g3, -⟩ := hH.obj hvk hr
  obtain ⟨p, l, e, R, z, m, args, below, meth, c⟩ := X
  obtain ⟨⟨hx, hb, hown, hts, hlk⟩, hB, -⟩ := hC
  obtain ⟨hS, hfc, kC, hkC, hkind⟩ := hB.1.1 ci _ hr
  obtain ⟨kA, comp, k1', k2, k3, -⟩ := (hB.1.2 2 _ rfl).2
  obtain ⟨c0, t0, f1, f2, f3⟩ := Cond.castable_spec (va_Nw.use (A := args) rfl (hB.2.1.2.2.2 _ _ wc))
  cases hfc.symm.trans f1
  cases k3.symm.trans f2
  obtain ⟨kO, hkO, -⟩ := Vm.findClass_spec k3
  exact W.aast (v := ad v) hx hb hc (fun q h => by cases h) (fun h => by cases h) k1' k2 rfl hkO ⟨hin.1, by rw [arrV_size]; exact hin.2⟩ g1 (fun q h => by rw [g3] at h; cases h) (by rw [g2]; exact hkC) (by rw [g2]; exact f3) rfl rfl hdg k1
/-- an int[] into an Object[] -/
theorem gc_astOI (hC : cOk X Y own cc d) {v : Nat} {i : Int32} (hk : cK s a = 22) (hvk : cK s v = 20) (wc : Cond.castable "[I" "java/lang/Object" ∈ lw_tbl) (hin : cIn s a i) (hdg : decode cc pc = .ok (.aastore, 1)) (kk : GC X Y M F (sR s (er i.toNatClampNeg) a (some v)) (pc + 1) lv st) : GC X Y M F s pc lv (.ref v :: .int i :: .ref a :: st) := by
  obtain ⟨⟨hK, hL, hn, hz⟩, hv, hw, hR⟩ := pt_Re (s := s) (k := 22) (j := i.toNatClampNeg) (a := a) (x := some v) (by omega)
  refine gc_astW hC (w := .ref v) hk (by omega) (by omega) hin hK hL hn hz hv hw hR (fun ad H locs cells slots Q ls hH hRf hc k1 => ?_) kk
  have hcv := hH.arr hvk (by omega) (by omega)
  obtain ⟨p, l, e, R, z, m, args, below, meth, c⟩ := X
  obtain ⟨⟨hx, hb, hown, hts, hlk⟩, hB, -⟩ := hC
  obtain ⟨kA, comp, k1', k2, k3, -⟩ := (hB.1.2 2 _ rfl).2
  have hfc := va_nm_int ((hB.1.2 0 _ rfl).2)
  obtain ⟨c0, t0, f1, f2, f3⟩ := Cond.castable_spec (va_Nw.use (A := args) rfl (hB.2.1.2.2.2 _ _ wc))
  cases hfc.symm.trans f1
  cases k3.symm.trans f2
  obtain ⟨kO, hkO, -⟩ := Vm.findClass_spec k3
  obtain ⟨kI, hkI, -⟩ := Vm.findClass_spec hfc
  exact W.aast (v := ad v) hx hb hc (fun q h => by cases h) (fun h => by cases h) k1' k2 rfl hkO ⟨hin.1, by rw [arrV_size]; exact hin.2⟩ hcv (fun q h => by cases h) hkI f3 rfl rfl hdg k1
/-- the Integers' cache -/
theorem gc_getHi (hC : cOk X Y own cc d) {ref : String} (w : Cond.fieldLink own index ref "high" "I" ∈ lw_all) (hsame : ∀ x, (gSt X).fieldFound? "java/lang/Integer$IntegerCache" "high" "I" = some x → (gSt X).fieldFound? ref "high" "I" = some x) (hdg : decode cc pc = .ok (.getstatic index, 3)) (kk : GC X Y M F s (pc + 3) lv (.int 127 :: st)) : GC X Y M F s pc lv st :=
  gc_gets (v := .int 127) hC w hsame (fun ad H hH => hC.2.1.2.2.2.2.2.2.2.1.2.2.1) (fun ad H hH => trivial) hdg kk
theorem gc_getCa (hC : cOk X Y own cc d) {ref : String} (h0 : cK s 256 = 24) (w : Cond.fieldLink own index ref "cache" "[Ljava/lang/Integer;" ∈ lw_all) (hsame : ∀ x, (gSt X).fieldFound? "java/lang/Integer$IntegerCache" "cache" "[Ljava/lang/Integer;" = some x → (gSt X).fieldFound? ref "cache" "[Ljava/lang/Integer;" = some x) (hdg : decode cc pc = .ok (.getstatic index, 3)) (kk : GC X Y M F s (pc + 3) lv (.ref 256 :: st)) : GC X Y M F s pc lv st :=
  gc_gets (v := .ref 256) hC w hsame (fun ad H hH => by
    show va_Z _ _ _ (.ref (ad 256)) _ _ _
    rw [hH.old (by omega) (by omega)]
    exact hC.2.1.2.2.2.2.2.2.2.1.2.2.2.1) (fun ad H hH => by show cK s 256 ≠ 0; omega) hdg kk
/-- the empty string -/
theorem gc_ldcS (hC : cOk X Y "ActorTrees$Failure" cc d) (h0 : cK s 259 = 99) (hdg : decode cc pc = .ok (.ldc 7, 2)) (kk : GC X Y M F s (pc + 2) lv (.ref 259 :: st)) : GC X Y M F s pc lv st := by
  refine gc_rd (st' := .ref 259 :: st) (fun ad H locs cells slots Q ls hH hR g k1 => ?_) (fun ad H hH hR => hR.cons (by show cK s 259 ≠ 0; omega)) kk
  have ho := hH.old (i := 259) (by omega) (by omega)
  obtain ⟨p, l, e, R, z, m, args, below, meth, c⟩ := X
  obtain ⟨⟨hx, hb, hown, hts, hlk⟩, hB, -⟩ := hC
  refine va_ldcS (tx := "") (q := ad 259) hx hb hown ?_ hdg k1
  rw [ho]
  exact hB.2.2.2.2.2.2.2.1.2.2.2.2.1
set_option maxRecDepth 100000 in
/-- System.arraycopy of ints, between two arrays -/
theorem gc_acopy (hC : cOk X Y own cc d) (hnL : gLoc X = M.1) {sp dp n : Int32} (hka : cK s a = 20) (hkb : cK s b = 20) (hab : a ≠ b) (h1 : ¬ sp < 0) (h2 : ¬ dp < 0) (h3 : ¬ n < 0) (h4 : sp.toNatClampNeg + n.toNatClampNeg ≤ cL s a) (h5 : dp.toNatClampNeg + n.toNatClampNeg ≤ cL s b)
    (w1 : Cond.methodLink own index arraycopyName ∈ lw_all) (w2 : Cond.native arraycopyName ∈ lw_all) (w3 : Cond.static arraycopyName ∈ lw_all) (w4 : Cond.initialized "java/lang/System" ∈ lw_all) (hdg : decode cc pc = .ok (.invokestatic index, 3)) (hs : (st.map fun v => v.category).sum ≤ 8)
    (kk : GC X Y M F (sCp s a b sp.toNatClampNeg dp.toNatClampNeg n.toNatClampNeg) (pc + 3) lv st) : GC X Y M F s pc lv (.int n :: .int dp :: .ref b :: .int sp :: .ref a :: st) := by
  refine gc_wr (s1 := sCp s a b sp.toNatClampNeg dp.toNatClampNeg n.toNatClampNeg) rfl rfl rfl (fun ad H locs cells slots Q ls hH hRf hS g k1 => ?_) (fun h => h.tail.tail.tail.tail.tail) kk
  have hca := hH.arr hka (by omega) (by omega)
  have hcb := hH.arr hkb (by omega) (by omega)
  have hAa : Y.2.2.2.1 (ad a) := cA_of hH (by omega) (Or.inl (by omega)) (by omega)
  have hAb : Y.2.2.2.1 (ad b) := cA_of hH (by omega) (Or.inl (by omega)) (by omega)
  have hne : ad a ≠ ad b := fun e => hab (hH.2.1 a b (by omega) (by omega) (by omega) (by omega) e)
  have hYA := hC.2.2.2.2.2.2.2
  obtain ⟨p, l, e, R, z, m, args, below, meth, c⟩ := X
  obtain ⟨⟨hx, hb, hown, hts, hlk⟩, hB, -, hfr, hlo, -⟩ := hC
  have hfr : d + 16 ≤ R.frames := hfr
  have hlo : 64 * d + 10400 ≤ R.locals := hlo
  have ea : ∀ u, cK s u = 20 → (fun j => tv ad (cVal s (cEl 20 j) u)) = fun j => .int (cI s (ei j) u) := fun u _ => funext fun j => by
    show tv ad (cVal s (ei j) u) = _
    rw [cVal_ei]; rfl
  rw [ea a hka] at hca
  rw [ea b hkb] at hcb
  refine va_copyH (a := ad b) (a0 := ad a) (f := fun j => cI s (ei j) a) (g := fun j => cI s (ei j) b) hx hb (hnL.trans g.1.1.symm) hown (hts _ w1) (hts _ w2) (hts _ w3) (hts _ w4) ((hB.1.2 0 _ rfl).1) hca hcb h1 h2 h3 h4 h5 (by omega) ?_ hdg (fun H1 L b1 z1 o1 hL => ?_)
  · have : nativeFrameWords "java/lang/System" "arraycopy" 5 ≤ 100 := by decide +kernel
    rw [cat_map]; omega
  · refine k1 H1 (locs ++ L) (cH_wr (a := b) hH rfl rfl rfl (fun g u hu => ?_) (fun g u w h => Or.inl h) (by omega) z1 o1 hAb hYA (by omega) ?_) ⟨by rw [z1]; exact hS.1, fun q q1 q2 => ?_, fun q hq => ?_⟩
    · have : cI (sCp s a b sp.toNatClampNeg dp.toNatClampNeg n.toNatClampNeg) g u = cI s g u := if_neg (fun q => hu q.1)
      unfold cVal
      rw [this]; rfl
    · have hk : cK (sCp s a b sp.toNatClampNeg dp.toNatClampNeg n.toNatClampNeg) b = 20 := hkb
      have hl : cL (sCp s a b sp.toNatClampNeg dp.toNatClampNeg n.toNatClampNeg) b = cL s b := rfl
      unfold cAt
      rw [hk, if_neg (by omega), if_neg (by omega), if_pos (by omega), b1, hl]
      congr 1
      refine arrV_congr fun j => ?_
      show _ = tv ad (cVal _ (ei j) b)
      rw [cVal_ei, sCp_ei]
      rfl
    · rw [o1 q (fun e => q2 (by rw [e]; exact hAb))]
      exact hS.2.1 q q1 q2
    · rcases List.mem_append.mp hq with h | h
      · exact hS.2.2 q h
      · rw [hL q h]; exact hAb
end GCM
