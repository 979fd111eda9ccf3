/-! calls whose method hangs on the receiver's class -/
section GDY
variable {α β : Type} {X : gCx} {Y : cY} {M : cMd α} {F : Option (α × cS)} {s : cS} {pc d d' index maxL n b count : Nat} {lv : List (Nat × Value)} {st rest As : List Value} {own : String} {cc bytes : ByteArray} {x y : MethodName} {ret : Option FieldType} {ρ' : β → Option Value ⊕ Nat} {f f1 f2 : Option (β × cS)} {K : β → cS → Option (α × cS)}
theorem gc_obif {c : Prop} [Decidable c] (k1 : c → GC X Y M (ob f1 K) s pc lv st) (k2 : ¬ c → GC X Y M (ob f2 K) s pc lv st) : GC X Y M (ob (if c then f1 else f2) K) s pc lv st := by
  by_cases h : c
  · rw [if_pos h]; exact k1 h
  · rw [if_neg h]; exact k2 h
theorem gc_obgd {c : Prop} [Decidable c] (k1 : c → GC X Y M (ob f K) s pc lv st) : GC X Y M (ob (gd c f) K) s pc lv st := by
  by_cases h : c
  · rw [gd_t h]; exact k1 h
  · have : gd c f = none := by unfold gd; rw [if_neg h]
    rw [this]; exact gc_none
theorem gc_obrv {γ : Type} {x : Option γ} {g : γ → Option (β × cS)} (k : ∀ a, x = some a → GC X Y M (ob (g a) K) s pc lv st) : GC X Y M (ob (rv x g) K) s pc lv st := by
  cases x with
  | none => exact gc_none
  | some a => exact k a rfl
/-- an abstract method -/
theorem gc_callU (hC : cOk X Y own cc d) (hnL : gLoc X = M.1) (hM : cFn (gLn X) Y y (ws_ y bytes maxL ret) d' (.ref b :: As) s f ρ') {ci : Nat} {r : vw_C} (hk : cK s b = ci + 1) (hr : ccl[ci]? = some r) (hdg : decode cc pc = .ok (.invokevirtual index, 3)) (w1 : Cond.methodLink own index x ∈ lw_all) (wm : Cond.sameMethod x.cls x.cls x.name x.desc ∈ lw_all) (wd : Cond.declares x ∈ lw_tbl) (w2 : Cond.instanceMethod y ∈ lw_all) (w3 : Cond.selects r.1 x y ∈ lw_all) (w4 : Cond.initialized y.cls ∈ lw_all) (w5 : Cond.code y bytes maxL ret ∈ lw_all)
    (hx : x.cls ≠ "java/lang/invoke/MethodHandle" ∧ x.cls ≠ "java/lang/invoke/VarHandle") (hy : (parseMethodDescriptor x.desc).map (fun d => d.parameters.length) = some n) (hn : As.length = n) (hd : d' + 1 ≤ d) (hm : maxL ≤ 45) (hs8 : (rest.map fun v => v.category).sum ≤ 8)
    (kn : ∀ (r : β) (s1 : cS) (v : Option Value), ρ' r = .inl v → GC X Y M (K r s1) s1 (pc + 3) lv (v.toList ++ rest)) (kx : ∀ (r : β) (s1 : cS) (x : Nat), ρ' r = .inr x → GX X Y M (K r s1) s1 pc lv x) : GC X Y M (ob f K) s pc lv (As.reverse ++ .ref b :: rest) := by
  refine gc_after (len := 3) (rest := rest) (fun r1 s1 hf => ⟨(hM r1 s1 hf).1, fun ad H locs cells slots ls hH hR hg h1 h2 => ?_⟩) (fun v hv => mem_st2 hv) kn kx
  have hc := (hM r1 s1 hf).2
  obtain ⟨p, l, e, R, z, m, args, below, meth, c⟩ := X
  have hP := hC.pre (H := H) (maxL := maxL) hd hm h1 h2
  refine ⟨((Value.ref b :: As).map (tv ad)).toArray, c_run fun T hT XS => ?_⟩
  obtain ⟨cell, q1, q2, q3, -⟩ := hH.obj hk hr
  obtain ⟨⟨hx0, hb, hown, hts, hlk⟩, hB, -⟩ := hC
  exact vx_callVU (owner := x.cls) (x := x) XS hx0 hown (hts _ w1) (hts _ wm) (va_Decl.abs (hB.2.1.2.2.1 x wd)) hx (hts _ w3) (hts _ w2) (hts _ w5) (c_back hP hc w5 w4) (b := ad b) (by rw [hT]; exact q1) (by rw [q3]; rfl) (by rw [q2]; exact (hB.1.1 ci _ hr).2.1) rfl (hg.1.1.trans hnL.symm) (argsL := As.map (tv ad)) (rest := rest.map (tv ad)) (hy_len hy hn) st_map (by show 2 * 0 + _ ≤ 8; rw [cat_map]; omega) (by rw [hb]; exact hdg) (c_pre hP hT hH (fun v hv => hR.2 v (mem_st hv)) rfl)
/-- through an interface -/
theorem gc_callF (hC : cOk X Y own cc d) (hnL : gLoc X = M.1) (hM : cFn (gLn X) Y y (ws_ y bytes maxL ret) d' (.ref b :: As) s f ρ') {ci : Nat} {r : vw_C} (hk : cK s b = ci + 1) (hr : ccl[ci]? = some r) (hdg : decode cc pc = .ok (.invokeinterface index count, 5)) (w1 : Cond.methodLink own index x ∈ lw_all) (wf : (r.1, x, y) ∈ cFws) (w2 : Cond.instanceMethod y ∈ lw_all) (w3 : Cond.selects r.1 x y ∈ lw_all) (w4 : Cond.initialized y.cls ∈ lw_all) (w5 : Cond.code y bytes maxL ret ∈ lw_all)
    (hy : (parseMethodDescriptor x.desc).map (fun d => d.parameters.length) = some n) (hn : As.length = n) (hd : d' + 1 ≤ d) (hm : maxL ≤ 45) (hs8 : (rest.map fun v => v.category).sum ≤ 8)
    (kn : ∀ (r : β) (s1 : cS) (v : Option Value), ρ' r = .inl v → GC X Y M (K r s1) s1 (pc + 5) lv (v.toList ++ rest)) (kx : ∀ (r : β) (s1 : cS) (x : Nat), ρ' r = .inr x → GX X Y M (K r s1) s1 pc lv x) : GC X Y M (ob f K) s pc lv (As.reverse ++ .ref b :: rest) := by
  refine gc_after (len := 5) (rest := rest) (fun r1 s1 hf => ⟨(hM r1 s1 hf).1, fun ad H locs cells slots ls hH hR hg h1 h2 => ?_⟩) (fun v hv => mem_st2 hv) kn kx
  have hc := (hM r1 s1 hf).2
  obtain ⟨p, l, e, R, z, m, args, below, meth, c⟩ := X
  have hP := hC.pre (H := H) (maxL := maxL) hd hm h1 h2
  refine ⟨((Value.ref b :: As).map (tv ad)).toArray, c_run fun T hT XS => ?_⟩
  obtain ⟨cell, q1, q2, q3, -⟩ := hH.obj hk hr
  obtain ⟨⟨hx0, hb, hown, hts, hlk⟩, hB, -⟩ := hC
  obtain ⟨f1, f2, f3, f4, f5⟩ := hB.2.2.2.2.2.1.1 _ wf
  obtain ⟨hS, hfc, kC, hkC, hkind⟩ := hB.1.1 ci _ hr
  exact vx_callIF (x := x) XS hx0 hown (hts _ w1) (va_any rfl f1) (va_any rfl f2) (hts _ w3) (hts _ w2) (va_any rfl f3) (va_any rfl f4) (va_any rfl f5) (hts _ w5) (cFws_no _ wf) (c_back hP hc w5 w4) (b := ad b) (by rw [hT]; exact q1) (by rw [q3]; rfl) (by rw [q2]; exact hfc) (by rw [q2]; exact hkC) rfl (hg.1.1.trans hnL.symm) (argsL := As.map (tv ad)) (rest := rest.map (tv ad)) (hy_len hy hn) st_map (by show 2 * 0 + _ ≤ 8; rw [cat_map]; omega) (by rw [hb]; exact hdg) (c_pre hP hT hH (fun v hv => hR.2 v (mem_st hv)) rfl)
end GDY
