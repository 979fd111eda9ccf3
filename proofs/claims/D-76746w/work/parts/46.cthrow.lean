/-! instructions at which the machine throws -/
section GCU
variable {α : Type} {X : gCx} {Y : cY} {M : cMd α} {F : Option (α × cS)} {s : cS} {pc d index a : Nat} {lv : List (Nat × Value)} {st st' : List Value} {own nm : String} {cc : ByteArray}
theorem gc_ofGN {E : String} {nb : Nat} (row : ∀ (ad : Nat → Nat) (H : Heap) (locs : List Loc) (cells slots : Nat) (Q : State → Prop) (ls : Array Slot), cH Y ad s H → cRf s lv st → gHas ls M.1 (lmap ad lv) → (∀ text : String, (text == notModelled) = false → (stringBytes (stringToUtf16 text)).size ≤ nb → gNote X H locs cells slots Q (F0 (gMe X) pc ls (st'.map (tv ad))) E text) → gW X H locs cells slots Q (F0 (gMe X) pc ls (st.map (tv ad)))) (hs : (st'.map fun v => v.category).sum ≤ 8) (k : GN X Y M F s pc lv E nb) : GC X Y M F s pc lv st := by
  intro r t' h
  obtain ⟨h1, h2⟩ := k r t' h
  exact ⟨h1, fun ad mc ms cells slots H locs ls a b c dd hH hR g i hS l => row ad H locs cells slots _ ls hH hR l fun text t1 t2 => h2 ad mc ms cells slots H locs ls (st'.map (tv ad)) text a b c dd hH hR.1 g i hS l (by rw [cat_map]; omega) t1 t2⟩
theorem gc_ofGNN (row : ∀ (ad : Nat → Nat) (H : Heap) (locs : List Loc) (cells slots : Nat) (Q : State → Prop) (ls : Array Slot), cH Y ad s H → cRf s lv st → gHas ls M.1 (lmap ad lv) → gNoteN X H locs cells slots Q (F0 (gMe X) pc ls (st'.map (tv ad))) → gW X H locs cells slots Q (F0 (gMe X) pc ls (st.map (tv ad)))) (hs : (st'.map fun v => v.category).sum ≤ 8) (k : GNN X Y M F s pc lv) : GC X Y M F s pc lv st := by
  intro r t' h
  obtain ⟨h1, h2⟩ := k r t' h
  exact ⟨h1, fun ad mc ms cells slots H locs ls a b c dd hH hR g i hS l => row ad H locs cells slots _ ls hH hR l (h2 ad mc ms cells slots H locs ls (st'.map (tv ad)) a b c dd hH hR.1 g i hS l (by rw [cat_map]; omega))⟩
theorem cIn_out {s : cS} {a : Nat} {i : Int32} (h : ¬ cIn s a i) {cA : ClassId} {f : Nat → Value} : i < 0 ∨ (arrV cA (cL s a) f).slots.size ≤ i.toNatClampNeg := by
  rw [arrV_size]
  by_cases h0 : i < 0
  · exact Or.inl h0
  · exact Or.inr (Nat.le_of_not_lt fun q => h ⟨h0, q⟩)
theorem gc_iastX (hC : cOk X Y own cc d) {i x : Int32} (hk : cK s a = 20) (hout : ¬ cIn s a i) (hlen : cL s a < 2147483648) (hdg : decode cc pc = .ok (.iastore, 1)) (hs : (st.map fun v => v.category).sum ≤ 8) (kk : GN X Y M F s pc lv cEA 212) : GC X Y M F s pc lv (.int x :: .int i :: .ref a :: st) := by
  refine gc_ofGN (st' := st) (fun ad H locs cells slots Q ls hH hR g k1 => ?_) hs kk
  have hc := hH.arr hk (by omega) (by omega)
  obtain ⟨p, l, e, R, z, m, args, below, meth, c⟩ := X
  obtain ⟨⟨hx, hb, hown, hts, hlk⟩, hB, -⟩ := hC
  intro T hT XS
  obtain ⟨t, st1, q⟩ := k1 _ (index_text_modelled i (cL s a)) (index_text_bytes i (by omega)) T hT XS
  refine ⟨t, ?_, q⟩
  have h1 := XS.iastoreOut hx (by rw [hT]; exact hc) ((hB.1.2 0 _ rfl).1 _ _) (j := i) (x := x) (cIn_out hout) (g := F0 m pc ls (.int x :: .int i :: .ref (ad a) :: st.map (tv ad))) rfl (rest := st.map (tv ad)) rfl (by rw [hb]; exact hdg) t
  simp only [arrV_size] at h1
  exact h1 st1
theorem gc_bastX (hC : cOk X Y own cc d) {i x : Int32} (hk : cK s a = 21) (hout : ¬ cIn s a i) (hlen : cL s a < 2147483648) (hdg : decode cc pc = .ok (.bastore, 1)) (hs : (st.map fun v => v.category).sum ≤ 8) (kk : GN X Y M F s pc lv cEA 212) : GC X Y M F s pc lv (.int x :: .int i :: .ref a :: st) := by
  refine gc_ofGN (st' := st) (fun ad H locs cells slots Q ls hH hR g k1 => ?_) hs kk
  have hc := hH.arr hk (by omega) (by omega)
  obtain ⟨p, l, e, R, z, m, args, below, meth, c⟩ := X
  obtain ⟨⟨hx, hb, hown, hts, hlk⟩, hB, -⟩ := hC
  intro T hT XS
  obtain ⟨t, st1, q⟩ := k1 _ (index_text_modelled i (cL s a)) (index_text_bytes i (by omega)) T hT XS
  refine ⟨t, ?_, q⟩
  have h1 := XS.bastoreOut hx (by rw [hT]; exact hc) ((hB.1.2 1 _ rfl).1 _ _) (j := i) (x := x) (cIn_out hout) (g := F0 m pc ls (.int x :: .int i :: .ref (ad a) :: st.map (tv ad))) rfl (rest := st.map (tv ad)) rfl (by rw [hb]; exact hdg) t
  simp only [arrV_size] at h1
  exact h1 st1
theorem gc_ialdX (hC : cOk X Y own cc d) {i : Int32} (hk : cK s a = 20) (hout : ¬ cIn s a i) (hlen : cL s a < 2147483648) (hdg : decode cc pc = .ok (.iaload, 1)) (hs : (st.map fun v => v.category).sum ≤ 8) (kk : GN X Y M F s pc lv cEA 212) : GC X Y M F s pc lv (.int i :: .ref a :: st) := by
  refine gc_ofGN (st' := st) (fun ad H locs cells slots Q ls hH hR g k1 => ?_) hs kk
  have hc := hH.arr hk (by omega) (by omega)
  obtain ⟨p, l, e, R, z, m, args, below, meth, c⟩ := X
  obtain ⟨⟨hx, hb, hown, hts, hlk⟩, hB, -⟩ := hC
  intro T hT XS
  obtain ⟨t, st1, q⟩ := k1 _ (index_text_modelled i (cL s a)) (index_text_bytes i (by omega)) T hT XS
  refine ⟨t, ?_, q⟩
  have h1 := XS.ialoadOut hx (by rw [hT]; exact hc) ((hB.1.2 0 _ rfl).1 _ _) (j := i) (cIn_out hout) (g := F0 m pc ls (.int i :: .ref (ad a) :: st.map (tv ad))) rfl (rest := st.map (tv ad)) rfl (by rw [hb]; exact hdg) t
  simp only [arrV_size] at h1
  exact h1 st1
theorem gc_aaldX (hC : cOk X Y own cc d) {i : Int32} {k : Nat} {ty : FieldType} (hk : cK s a = k) (h20 : 22 ≤ k) (h25 : k < 25) {t0 : Nat} (ht : (cTys Y)[t0]? = some (Y.2.1 k, ty)) (hout : ¬ cIn s a i) (hlen : cL s a < 2147483648) (hdg : decode cc pc = .ok (.aaload, 1)) (hs : (st.map fun v => v.category).sum ≤ 8) (kk : GN X Y M F s pc lv cEA 212) : GC X Y M F s pc lv (.int i :: .ref a :: st) := by
  refine gc_ofGN (st' := st) (fun ad H locs cells slots Q ls hH hR g k1 => ?_) hs kk
  have hc := hH.arr hk (by omega) (by omega)
  obtain ⟨p, l, e, R, z, m, args, below, meth, c⟩ := X
  obtain ⟨⟨hx, hb, hown, hts, hlk⟩, hB, -⟩ := hC
  intro T hT XS
  obtain ⟨t, st1, q⟩ := k1 _ (index_text_modelled i (cL s a)) (index_text_bytes i (by omega)) T hT XS
  refine ⟨t, ?_, q⟩
  have h1 := XS.aaloadOut hx (by rw [hT]; exact hc) ((hB.1.2 t0 _ ht).1 _ _) (j := i) (cIn_out hout) (g := F0 m pc ls (.int i :: .ref (ad a) :: st.map (tv ad))) rfl (rest := st.map (tv ad)) rfl (by rw [hb]; exact hdg) t
  simp only [arrV_size] at h1
  exact h1 st1
theorem gc_aastX (hC : cOk X Y own cc d) {i : Int32} {v : Value} {k : Nat} {ty : FieldType} (hv : refV v) (hk : cK s a = k) (h20 : 22 ≤ k) (h25 : k < 25) {t0 : Nat} (ht : (cTys Y)[t0]? = some (Y.2.1 k, ty)) (hout : ¬ cIn s a i) (hlen : cL s a < 2147483648) (hdg : decode cc pc = .ok (.aastore, 1)) (hs : (st.map fun v => v.category).sum ≤ 8) (kk : GN X Y M F s pc lv cEA 212) : GC X Y M F s pc lv (v :: .int i :: .ref a :: st) := by
  refine gc_ofGN (st' := st) (fun ad H locs cells slots Q ls hH hR g k1 => ?_) hs kk
  have hc := hH.arr hk (by omega) (by omega)
  have hv1 : (tv ad v).isRef = true := by rcases hv with rfl | ⟨b, rfl⟩ <;> rfl
  obtain ⟨p, l, e, R, z, m, args, below, meth, c⟩ := X
  obtain ⟨⟨hx, hb, hown, hts, hlk⟩, hB, -⟩ := hC
  intro T hT XS
  obtain ⟨t, st1, q⟩ := k1 _ (index_text_modelled i (cL s a)) (index_text_bytes i (by omega)) T hT XS
  refine ⟨t, ?_, q⟩
  have h1 := XS.aastoreOut hx hv1 (by rw [hT]; exact hc) ((hB.1.2 t0 _ ht).1 _ _) (j := i) (cIn_out hout) (g := F0 m pc ls (tv ad v :: .int i :: .ref (ad a) :: st.map (tv ad))) rfl (rest := st.map (tv ad)) rfl (by rw [hb]; exact hdg) t
  simp only [arrV_size] at h1
  exact h1 st1
theorem gc_newIX (hC : cOk X Y own cc d) {n : Int32} (hn : n < 0) (hdg : decode cc pc = .ok (.newarray .int, 2)) (hs : (st.map fun v => v.category).sum ≤ 8) (kk : GN X Y M F s pc lv cES 44) : GC X Y M F s pc lv (.int n :: st) := by
  refine gc_ofGN (st' := st) (fun ad H locs cells slots Q ls hH hR g k1 => ?_) hs kk
  obtain ⟨p, l, e, R, z, m, args, below, meth, c⟩ := X
  obtain ⟨⟨hx, hb, hown, hts, hlk⟩, hB, -⟩ := hC
  exact vx_newarrayZ hx hb hn hdg fun tx htx => by subst htx; exact k1 _ (negative_text_modelled hn) (negative_text_bytes n)
theorem gc_alenN (hC : cOk X Y own cc d) (hdg : decode cc pc = .ok (.arraylength, 1)) (hs : (st.map fun v => v.category).sum ≤ 8) (kk : GNN X Y M F s pc lv) : GC X Y M F s pc lv (.null :: st) := by
  refine gc_ofGNN (st' := st) (fun ad H locs cells slots Q ls hH hR g k1 => ?_) hs kk
  obtain ⟨p, l, e, R, z, m, args, below, meth, c⟩ := X
  exact vx_arraylengthN hC.1.1 hC.1.2.1 hdg k1
theorem gc_ialdN (hC : cOk X Y own cc d) {i : Int32} (hdg : decode cc pc = .ok (.iaload, 1)) (hs : (st.map fun v => v.category).sum ≤ 8) (kk : GNN X Y M F s pc lv) : GC X Y M F s pc lv (.int i :: .null :: st) := by
  refine gc_ofGNN (st' := st) (fun ad H locs cells slots Q ls hH hR g k1 => ?_) hs kk
  obtain ⟨p, l, e, R, z, m, args, below, meth, c⟩ := X
  exact vx_ialoadN hC.1.1 hC.1.2.1 hdg k1
/-- getfield of null -/
theorem gc_getX (hC : cOk X Y own cc d) {ci j : Nat} {C ref : String} {T : u_T} {N : Nat} (hdg : decode cc pc = .ok (.getfield index, 3)) (hr : ccl[ci]? = some (C, T, N)) (hj : j < N) (hin : ∀ w ∈ u_ws C T N, w ∈ lw_all) (hlink : Cond.fieldLink own index ref (T j).2.1 (T j).2.2.1 ∈ lw_all) (hsame : ∀ x, (gSt X).fieldFound? (T j).1 (T j).2.1 (T j).2.2.1 = some x → (gSt X).fieldFound? ref (T j).2.1 (T j).2.2.1 = some x) (hs : (st.map fun v => v.category).sum ≤ 8) (kk : GNN X Y M F s pc lv) : GC X Y M F s pc lv (.null :: st) := by
  refine gc_ofGNN (st' := st) (fun ad H locs cells slots Q ls hH hR g k1 => ?_) hs kk
  obtain ⟨p, l, e, R, z, m, args, below, meth, c⟩ := X
  obtain ⟨⟨hx, hb, hown, hts, hlk⟩, hB, -⟩ := hC
  exact vx_getfN hx hb hts hin hown hB.1 hr j hj (hts _ hlink) hsame hdg k1
theorem gc_getXN (hC : cOk X Y own cc d) {ci j : Nat} {C ref host : String} {T : u_T} {N : Nat} (hdg : decode cc pc = .ok (.getfield index, 3)) (hr : ccl[ci]? = some (C, T, N)) (hj : j < N) (hin : ∀ w ∈ u_ws C T N, w ∈ lw_all) (hlink : Cond.fieldLinkNest own index ref (T j).2.1 (T j).2.2.1 host ∈ lw_tbl) (hsame : ∀ x, (gSt X).fieldFound? (T j).1 (T j).2.1 (T j).2.2.1 = some x → (gSt X).fieldFound? ref (T j).2.1 (T j).2.2.1 = some x) (hs : (st.map fun v => v.category).sum ≤ 8) (kk : GNN X Y M F s pc lv) : GC X Y M F s pc lv (.null :: st) := by
  refine gc_ofGNN (st' := st) (fun ad H locs cells slots Q ls hH hR g k1 => ?_) hs kk
  obtain ⟨p, l, e, R, z, m, args, below, meth, c⟩ := X
  obtain ⟨⟨hx, hb, hown, hts, hlk⟩, hB, -⟩ := hC
  exact vx_getfNN hx hb hts hin hown hB.1 hr j hj (va_Nw.use rfl (hB.2.1.1 _ _ _ _ _ _ hlink)) hsame hdg k1
/-- a method of null -/
theorem gc_invX (hC : cOk X Y own cc d) {C : String} {maxL : Nat} {y : MethodName} {bytes : ByteArray} {ret : Option FieldType} {As : List Value} (hdg : decode cc pc = .ok (.invokevirtual index, 3)) (w1 : Cond.methodLink own index y ∈ lw_all) (w2 : Cond.instanceMethod y ∈ lw_all) (w3 : Cond.selects C y y ∈ lw_all) (w5 : Cond.code y bytes maxL ret ∈ lw_all)
    (hy : (y.cls ≠ "java/lang/invoke/MethodHandle" ∧ y.cls ≠ "java/lang/invoke/VarHandle") ∧ (parseMethodDescriptor y.desc).map (fun d => d.parameters.length) = some As.length) (hs : (st.map fun v => v.category).sum ≤ 8) (kk : GNN X Y M F s pc lv) : GC X Y M F s pc lv (As.reverse ++ .null :: st) := by
  refine gc_ofGNN (st' := st) (fun ad H locs cells slots Q ls hH hR g k1 => ?_) hs kk
  obtain ⟨p, l, e, R, z, m, args, below, meth, c⟩ := X
  obtain ⟨⟨hx, hb, hown, hts, hlk⟩, hB, -⟩ := hC
  exact vx_invokeN (As := As.map (tv ad)) hx hb hown (hts _ w1) (hts _ w2) (hts _ w5) (hts _ w3) hy.1 (by rw [List.length_map]; exact hy.2) hdg k1 (by rw [List.map_append, List.map_reverse]; rfl)
/-- an abstract method of null -/
theorem gc_invXU (hC : cOk X Y own cc d) {C : String} {x y : MethodName} {As : List Value} (hdg : decode cc pc = .ok (.invokevirtual index, 3)) (w1 : Cond.methodLink own index x ∈ lw_all) (wm : Cond.sameMethod x.cls x.cls x.name x.desc ∈ lw_all) (wd : Cond.declares x ∈ lw_tbl) (w3 : Cond.selects C x y ∈ lw_all)
    (hy : (x.cls ≠ "java/lang/invoke/MethodHandle" ∧ x.cls ≠ "java/lang/invoke/VarHandle") ∧ (parseMethodDescriptor x.desc).map (fun d => d.parameters.length) = some As.length) (hs : (st.map fun v => v.category).sum ≤ 8) (kk : GNN X Y M F s pc lv) : GC X Y M F s pc lv (As.reverse ++ .null :: st) := by
  refine gc_ofGNN (st' := st) (fun ad H locs cells slots Q ls hH hR g k1 => ?_) hs kk
  obtain ⟨p, l, e, R, z, m, args, below, meth, c⟩ := X
  obtain ⟨⟨hx, hb, hown, hts, hlk⟩, hB, -⟩ := hC
  intro T hT XS
  obtain ⟨r0, r, hn, hrm, hstR, hsigR⟩ := va_Decl.abs (hB.2.1.2.2.1 x wd)
  obtain ⟨cn, ck, r1, hcn, hck, hni, hf, hn1⟩ := Cond.sameMethod_found (hts _ wm)
  cases hn.symm.trans hn1
  have e0 : r0.cls = cn := Option.some.inj ((findClass_of_methodNamed hn).symm.trans hcn)
  have hl9 : (As.map (tv ad)).length = r.sig.parameters.length := by
    have h2 := hy.2
    rw [hsigR] at h2
    rw [List.length_map]
    exact (Option.some.inj h2).symm
  obtain ⟨vm', X1, st1⟩ := XS.invokevirtualNull hx hown (hts _ w1) hn hrm hstR (by rw [e0]; exact hck) hni hy.1 (g := F0 m pc ls ((As.reverse ++ .null :: st).map (tv ad))) rfl (argsL := As.map (tv ad)) (rest := st.map (tv ad)) hl9 (by show (As.reverse ++ .null :: st).map (tv ad) = _; rw [List.map_append, List.map_reverse]; rfl) (by rw [hb]; exact hdg)
  obtain ⟨t, st2, q⟩ := k1 (T.setVm vm') hT X1
  exact ⟨t, st1 t st2, q⟩
end GCU
