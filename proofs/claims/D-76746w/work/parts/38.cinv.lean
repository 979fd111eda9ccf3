/-! the component's calls, one a kind -/
section GCI
variable {p : Program} {l : Launch} {e : Env} {R : Room} {s : State} {m : MethodId} {args : Array Value} {below : List Frame} {meth : Method} {c : Code}
variable {Y : cY} {ad : Nat → Nat} {cs cs1 : cS} {H : Heap} {locs : List Loc} {cells slots : Nat} {g : JFrame} {rest As : List Value} {out : Option Value ⊕ Nat} {y : MethodName} {own C host : String} {bytes cc : ByteArray} {maxL index d d' n : Nat} {ret : Option FieldType} {hh : List (Nat × Nat × Nat × Nat)}
/-- what every call asks of the room, the contract, the state -/
def cPre (p : Program) (l : Launch) (R : Room) (s : State) (m : MethodId) (args : Array Value) (c : Code) (Y : cY) (H : Heap) (own : String) (cc : ByteArray) (d' : Nat) (maxL cells slots mc ms : Nat) : Prop :=
  p.tables.exec = Jvm.exec ∧ c.code = cc ∧ s.vm.findClass own = some m.cls ∧ (∀ w ∈ lw_all, w.before args s = true) ∧ cB Y s ∧ d' + 17 ≤ R.frames ∧ 8 + (maxL + 11) + (64 * d' + 10400) ≤ R.locals ∧ cells + mc ≤ R.cells ∧ slots + ms ≤ R.slots
theorem c_back (hP : cPre p l R s m args c Y H own cc d' maxL cells slots (cn cs1 - cn cs) (cz cs1 - cz cs)) (hM : cCt l Y y (ws_ y bytes maxL ret) d' As cs out cs1) (hw : Cond.code y bytes maxL ret ∈ lw_all) (hini : Cond.initialized y.cls ∈ lw_all) {len : Nat} :
    vx_Back l R p e below s args y len 8 (PreOf R (cn cs1 - cn cs) (cz cs1 - cz cs) (cPc Y ad cs As)) (PostOf (cQc Y cs ad out cs1) (cn cs1 - cn cs) (cz cs1 - cz cs) Y.2.2.2.1) (gx_Post (cXq Y cs ad out cs1) (cn cs1 - cn cs) (cz cs1 - cz cs) Y.2.2.2.1) := by
  obtain ⟨-, -, -, hts, -, h1, h2, -, -⟩ := hP
  refine gx_back (bytes := bytes) (maxL := maxL) (ret := ret) (hM ad) cPc_blind rfl rfl (by show d' + 16 + 1 ≤ R.frames; omega) h2 (pay_in hts (lw_meth hw)) List.mem_cons_self (fun a' U hW => word_at hW (Or.inl (by first | rfl | simp [Cond.onTables, Cond.keeps, Cond.steady])) (hts _ hini))
theorem c_backW (hP : cPre p l R s m args c Y H own cc d' maxL cells slots (cn cs1 - cn cs) (cz cs1 - cz cs)) (hM : cCt l Y y (wsW_ y bytes maxL ret hh) d' As cs out cs1) (hw : Cond.codeWith y bytes maxL ret hh ∈ lw_all) (hini : Cond.initialized y.cls ∈ lw_all) {len : Nat} :
    vx_Back l R p e below s args y len 8 (PreOf R (cn cs1 - cn cs) (cz cs1 - cz cs) (cPc Y ad cs As)) (PostOf (cQc Y cs ad out cs1) (cn cs1 - cn cs) (cz cs1 - cz cs) Y.2.2.2.1) (gx_Post (cXq Y cs ad out cs1) (cn cs1 - cn cs) (cz cs1 - cz cs) Y.2.2.2.1) := by
  obtain ⟨-, -, -, hts, -, h1, h2, -, -⟩ := hP
  refine gx_backW (bytes := bytes) (maxL := maxL) (ret := ret) (hh := hh) (hM ad) cPc_blind rfl rfl (by show d' + 16 + 1 ≤ R.frames; omega) h2 (pay_in hts (lw_methW hw)) List.mem_cons_self (fun a' U hW => word_at hW (Or.inl (by first | rfl | simp [Cond.onTables, Cond.keeps, Cond.steady])) (hts _ hini))
/-- the state ahead of a call -/
theorem c_pre {T : State} (hP : cPre p l R s m args c Y H own cc d' maxL cells slots (cn cs1 - cn cs) (cz cs1 - cz cs)) (hT : T.heap = H) (hH : cH Y ad cs H) (hv : ∀ v ∈ As, vOk cs v) {av : Array Value} (hav : av = (As.map (tv ad)).toArray) : ∀ vm₁, s.WarmedH vm₁ → PreOf R (cn cs1 - cn cs) (cz cs1 - cz cs) (cPc Y ad cs As) ⟨T.setVm vm₁, locs, cells, slots⟩ av :=
  fun vm₁ hW => ⟨hP.2.2.2.2.2.2.2.1, hP.2.2.2.2.2.2.2.2, hav, by show cH Y ad cs T.heap; rw [hT]; exact hH, cB.moved (s := s) (U := T.setVm vm₁) hW hP.2.2.2.2.1, hv⟩
/-- the two ends of a call, as cRun has them -/
theorem c_run {len : Nat} {av : Array Value} (h : ∀ T : State, T.heap = H → Stand p l e R s m args below meth c T locs cells slots →
    (∃ (v : Option Value) (vm₁ : Vm) (B : Pt), s.WarmedH vm₁ ∧ Stand p l e R s m args below meth c B.U B.locs B.cells B.slots ∧ PostOf (cQc Y cs ad out cs1) (cn cs1 - cn cs) (cz cs1 - cz cs) Y.2.2.2.1 ⟨T.setVm vm₁, locs, cells, slots⟩ av v B ∧
      ∀ target, Steps p.tables e below (B.U.setTop { g with pc := g.pc + len, stack := v.toList ++ rest }) target → Steps p.tables e below (T.setTop g) target) ∨
    (∃ (q : Addr) (vm₁ : Vm) (B : Pt), s.WarmedH vm₁ ∧ Stand p l e R s m args below meth c B.U B.locs B.cells B.slots ∧ gx_Post (cXq Y cs ad out cs1) (cn cs1 - cn cs) (cz cs1 - cz cs) Y.2.2.2.1 ⟨T.setVm vm₁, locs, cells, slots⟩ av q B ∧
      Steps p.tables e below (T.setTop g) ((B.U.setTop { g with stack := rest }).pushFrame (.throwing q)))) :
    cRun (p, l, e, R, s, m, args, below, meth, c) H locs cells slots (cn cs1 - cn cs) (cz cs1 - cz cs) g len rest (cQc Y cs ad out cs1 av) (cXq Y cs ad out cs1) Y.2.2.2.1 := by
  intro T hT X
  rcases h T hT X with ⟨v, vm₁, ⟨U', l2, c2, s2⟩, hW₁, X', ⟨g', mk, t, L, e1, e2, hq, h1, hL, h2, h3⟩, st⟩ | ⟨q, vm₁, ⟨U', l2, c2, s2⟩, hW₁, X', ⟨g', mk, t, L, e1, e2, hq, h1, hL, h2, h3⟩, st⟩
  · dsimp only [Pt.U, Pt.locs, Pt.cells, Pt.slots] at X' e1 e2 h1 h2 h3 st
    subst h1; subst h2; subst h3
    exact Or.inl ⟨v, (T.setVm vm₁).calling g' mk av, t, U', L, hT, X', hL, e1, e2, hq, st⟩
  · dsimp only [Pt.U, Pt.locs, Pt.cells, Pt.slots] at X' e1 e2 h1 h2 h3 st
    subst h1; subst h2; subst h3
    exact Or.inr ⟨q, (T.setVm vm₁).calling g' mk av, t, U', L, hT, X', hL, e1, e2, hq, st⟩
end GCI
section GCJ
variable {α β : Type} {X : gCx} {Y : cY} {M : cMd α} {F : Option (α × cS)} {s : cS} {pc d d' index maxL n b : Nat} {lv : List (Nat × Value)} {st rest As : List Value} {own host : String} {cc bytes : ByteArray} {y : MethodName} {ret : Option FieldType} {hh : List (Nat × Nat × Nat × Nat)} {ρ' : β → Option Value ⊕ Nat} {f : Option (β × cS)} {K : β → cS → Option (α × cS)}
/-- the contract of a callee, as its walk gives it -/
def cFn (l : Launch) (Y : cY) (y : MethodName) (ws : List Cond) (d : Nat) (av : List Value) (s : cS) (f : Option (β × cS)) (ρ : β → Option Value ⊕ Nat) : Prop := ∀ (r : β) (s' : cS), f = some (r, s') → cMo s s' ∧ cCt l Y y ws d av s (ρ r) s'
theorem cat_map {ad : Nat → Nat} {l : List Value} : ((l.map (tv ad)).map fun v => v.category).sum = (l.map fun v => v.category).sum := by
  rw [List.map_map]
  congr 1
  exact List.map_congr_left fun v _ => tv_cat ad v
theorem mem_st {As rest : List Value} {b : Value} {v : Value} (h : v ∈ b :: As) : v ∈ As.reverse ++ b :: rest := by
  rcases List.mem_cons.mp h with e | e
  · rw [e]; exact List.mem_append_right _ List.mem_cons_self
  · exact List.mem_append_left _ (List.mem_reverse.mpr e)
theorem mem_st2 {As rest : List Value} {b : Value} {v : Value} (h : v ∈ rest) : v ∈ As.reverse ++ b :: rest := List.mem_append_right _ (List.mem_cons_of_mem _ h)
theorem st_map {ad : Nat → Nat} {As rest : List Value} {b : Nat} : (As.reverse ++ Value.ref b :: rest).map (tv ad) = (As.map (tv ad)).reverse ++ .ref (ad b) :: rest.map (tv ad) := by
  rw [List.map_append, List.map_reverse]; rfl
theorem st_mapS {ad : Nat → Nat} {As rest : List Value} : (As.reverse ++ rest).map (tv ad) = (As.map (tv ad)).reverse ++ rest.map (tv ad) := by
  rw [List.map_append, List.map_reverse]
theorem hy_len {y : MethodName} {n : Nat} {As : List Value} {ad : Nat → Nat} (h : (parseMethodDescriptor y.desc).map (fun d => d.parameters.length) = some n) (hn : As.length = n) : ∀ sig, parseMethodDescriptor y.desc = some sig → (As.map (tv ad)).length = sig.parameters.length := fun sig hs => by
  rw [hs] at h
  rw [List.length_map, hn]
  exact (Option.some.inj h).symm
set_option maxRecDepth 100000 in
theorem cOk.pre {p : Program} {l : Launch} {e : Env} {R : Room} {z : State} {m : MethodId} {args : Array Value} {below : List Frame} {meth : Method} {c : Code} (hC : cOk (p, l, e, R, z, m, args, below, meth, c) Y own cc d) {H : Heap} {cells slots mc ms : Nat} (hd : d' + 1 ≤ d) (hm : maxL ≤ 45) (h1 : cells + mc ≤ R.cells) (h2 : slots + ms ≤ R.slots) : cPre p l R z m args c Y H own cc d' maxL cells slots mc ms := by
  obtain ⟨⟨hx, hb, hown, hts, hlk⟩, hB, -, hfr, hlo, -⟩ := hC
  have hfr : d + 16 ≤ R.frames := hfr
  have hlo : 64 * d + 10400 ≤ R.locals := hlo
  exact ⟨hx, hb, hown, hts, hB, by omega, by omega, h1, h2⟩
theorem gc_callV (hC : cOk X Y own cc d) (hnL : gLoc X = M.1) (hM : cFn (gLn X) Y y (ws_ y bytes maxL ret) d' (.ref b :: As) s f ρ') {ci : Nat} {r : vw_C} (hk : cK s b = ci + 1) (hr : ccl[ci]? = some r) (hdg : decode cc pc = .ok (.invokevirtual index, 3)) (w1 : Cond.methodLink own index y ∈ lw_all) (w2 : Cond.instanceMethod y ∈ lw_all) (w3 : Cond.selects r.1 y y ∈ lw_all) (w4 : Cond.initialized y.cls ∈ lw_all) (w5 : Cond.code y bytes maxL ret ∈ lw_all)
    (hy : (y.cls ≠ "java/lang/invoke/MethodHandle" ∧ y.cls ≠ "java/lang/invoke/VarHandle") ∧ (parseMethodDescriptor y.desc).map (fun d => d.parameters.length) = some n) (hn : As.length = n) (hd : d' + 1 ≤ d) (hm : maxL ≤ 45) (hs8 : (rest.map fun v => v.category).sum ≤ 8)
    (kn : ∀ (r : β) (s1 : cS) (v : Option Value), ρ' r = .inl v → GC X Y M (K r s1) s1 (pc + 3) lv (v.toList ++ rest)) (kx : ∀ (r : β) (s1 : cS) (x : Nat), ρ' r = .inr x → GX X Y M (K r s1) s1 pc lv x) : GC X Y M (ob f K) s pc lv (As.reverse ++ .ref b :: rest) := by
  refine gc_after (len := 3) (rest := rest) (fun r1 s1 hf => ⟨(hM r1 s1 hf).1, fun ad H locs cells slots ls hH hR hg h1 h2 => ?_⟩) (fun v hv => mem_st2 hv) kn kx
  have hc := (hM r1 s1 hf).2
  obtain ⟨p, l, e, R, z, m, args, below, meth, c⟩ := X
  have hP := hC.pre (H := H) (maxL := maxL) hd hm h1 h2
  refine ⟨((Value.ref b :: As).map (tv ad)).toArray, c_run fun T hT XS => ?_⟩
  obtain ⟨cell, q1, q2, q3, -⟩ := hH.obj hk hr
  obtain ⟨⟨hx, hb, hown, hts, hlk⟩, hB, -⟩ := hC
  exact vx_callV XS hx hown (hts _ w1) (hts _ w2) (hts _ w3) (hts _ w5) hy.1 (c_back hP hc w5 w4) (b := ad b) (by rw [hT]; exact q1) (by rw [q3]; rfl) (by rw [q2]; exact (hB.1.1 ci _ hr).2.1) rfl (hg.1.1.trans hnL.symm) (argsL := As.map (tv ad)) (rest := rest.map (tv ad)) (hy_len hy.2 hn) st_map (by show 2 * 0 + _ ≤ 8; rw [cat_map]; omega) (by rw [hb]; exact hdg) (c_pre hP hT hH (fun v hv => hR.2 v (mem_st hv)) rfl)
theorem gc_callVX (hC : cOk X Y own cc d) (hnL : gLoc X = M.1) (hM : cFn (gLn X) Y y (wsW_ y bytes maxL ret hh) d' (.ref b :: As) s f ρ') {ci : Nat} {r : vw_C} (hk : cK s b = ci + 1) (hr : ccl[ci]? = some r) (hdg : decode cc pc = .ok (.invokevirtual index, 3)) (w1 : Cond.methodLink own index y ∈ lw_all) (w2 : Cond.instanceMethod y ∈ lw_all) (w3 : Cond.selects r.1 y y ∈ lw_all) (w4 : Cond.initialized y.cls ∈ lw_all) (w5 : Cond.codeWith y bytes maxL ret hh ∈ lw_all)
    (hy : (y.cls ≠ "java/lang/invoke/MethodHandle" ∧ y.cls ≠ "java/lang/invoke/VarHandle") ∧ (parseMethodDescriptor y.desc).map (fun d => d.parameters.length) = some n) (hn : As.length = n) (hd : d' + 1 ≤ d) (hm : maxL ≤ 45) (hs8 : (rest.map fun v => v.category).sum ≤ 8)
    (kn : ∀ (r : β) (s1 : cS) (v : Option Value), ρ' r = .inl v → GC X Y M (K r s1) s1 (pc + 3) lv (v.toList ++ rest)) (kx : ∀ (r : β) (s1 : cS) (x : Nat), ρ' r = .inr x → GX X Y M (K r s1) s1 pc lv x) : GC X Y M (ob f K) s pc lv (As.reverse ++ .ref b :: rest) := by
  refine gc_after (len := 3) (rest := rest) (fun r1 s1 hf => ⟨(hM r1 s1 hf).1, fun ad H locs cells slots ls hH hR hg h1 h2 => ?_⟩) (fun v hv => mem_st2 hv) kn kx
  have hc := (hM r1 s1 hf).2
  obtain ⟨p, l, e, R, z, m, args, below, meth, c⟩ := X
  have hP := hC.pre (H := H) (maxL := maxL) hd hm h1 h2
  refine ⟨((Value.ref b :: As).map (tv ad)).toArray, c_run fun T hT XS => ?_⟩
  obtain ⟨cell, q1, q2, q3, -⟩ := hH.obj hk hr
  obtain ⟨⟨hx, hb, hown, hts, hlk⟩, hB, -⟩ := hC
  exact vx_callVX XS hx hown (hts _ w1) (hts _ w2) (hts _ w3) (hts _ w5) hy.1 (c_backW hP hc w5 w4) (b := ad b) (by rw [hT]; exact q1) (by rw [q3]; rfl) (by rw [q2]; exact (hB.1.1 ci _ hr).2.1) rfl (hg.1.1.trans hnL.symm) (argsL := As.map (tv ad)) (rest := rest.map (tv ad)) (hy_len hy.2 hn) st_map (by show 2 * 0 + _ ≤ 8; rw [cat_map]; omega) (by rw [hb]; exact hdg) (c_pre hP hT hH (fun v hv => hR.2 v (mem_st hv)) rfl)
theorem gc_callVN (hC : cOk X Y own cc d) (hnL : gLoc X = M.1) (hM : cFn (gLn X) Y y (ws_ y bytes maxL ret) d' (.ref b :: As) s f ρ') {ci : Nat} {r : vw_C} (hk : cK s b = ci + 1) (hr : ccl[ci]? = some r) (hdg : decode cc pc = .ok (.invokevirtual index, 3)) (w1 : Cond.methodLinkNest own index y host ∈ lw_tbl) (w2 : Cond.instanceMethod y ∈ lw_all) (w3 : Cond.selects r.1 y y ∈ lw_all) (w4 : Cond.initialized y.cls ∈ lw_all) (w5 : Cond.code y bytes maxL ret ∈ lw_all)
    (hy : (y.cls ≠ "java/lang/invoke/MethodHandle" ∧ y.cls ≠ "java/lang/invoke/VarHandle") ∧ (parseMethodDescriptor y.desc).map (fun d => d.parameters.length) = some n) (hn : As.length = n) (hd : d' + 1 ≤ d) (hm : maxL ≤ 45) (hs8 : (rest.map fun v => v.category).sum ≤ 8)
    (kn : ∀ (r : β) (s1 : cS) (v : Option Value), ρ' r = .inl v → GC X Y M (K r s1) s1 (pc + 3) lv (v.toList ++ rest)) (kx : ∀ (r : β) (s1 : cS) (x : Nat), ρ' r = .inr x → GX X Y M (K r s1) s1 pc lv x) : GC X Y M (ob f K) s pc lv (As.reverse ++ .ref b :: rest) := by
  refine gc_after (len := 3) (rest := rest) (fun r1 s1 hf => ⟨(hM r1 s1 hf).1, fun ad H locs cells slots ls hH hR hg h1 h2 => ?_⟩) (fun v hv => mem_st2 hv) kn kx
  have hc := (hM r1 s1 hf).2
  obtain ⟨p, l, e, R, z, m, args, below, meth, c⟩ := X
  have hP := hC.pre (H := H) (maxL := maxL) hd hm h1 h2
  refine ⟨((Value.ref b :: As).map (tv ad)).toArray, c_run fun T hT XS => ?_⟩
  obtain ⟨cell, q1, q2, q3, -⟩ := hH.obj hk hr
  obtain ⟨⟨hx, hb, hown, hts, hlk⟩, hB, -⟩ := hC
  exact vx_callVN XS hx hown (va_Nw.use rfl (hB.2.1.2.1 _ _ _ _ w1)) (hts _ w2) (hts _ w3) (hts _ w5) hy.1 (c_back hP hc w5 w4) (b := ad b) (by rw [hT]; exact q1) (by rw [q3]; rfl) (by rw [q2]; exact (hB.1.1 ci _ hr).2.1) rfl (hg.1.1.trans hnL.symm) (argsL := As.map (tv ad)) (rest := rest.map (tv ad)) (hy_len hy.2 hn) st_map (by show 2 * 0 + _ ≤ 8; rw [cat_map]; omega) (by rw [hb]; exact hdg) (c_pre hP hT hH (fun v hv => hR.2 v (mem_st hv)) rfl)
theorem gc_callI (hC : cOk X Y own cc d) (hnL : gLoc X = M.1) (hM : cFn (gLn X) Y y (ws_ y bytes maxL none) d' (.ref b :: As) s f ρ') (hdg : decode cc pc = .ok (.invokespecial index, 3)) (w1 : Cond.methodLink own index y ∈ lw_all) (w2 : Cond.instanceMethod y ∈ lw_all) (w4 : Cond.initialized y.cls ∈ lw_all) (w5 : Cond.code y bytes maxL none ∈ lw_all)
    (hy : (y.cls ≠ "java/lang/invoke/MethodHandle" ∧ y.cls ≠ "java/lang/invoke/VarHandle") ∧ (parseMethodDescriptor y.desc).map (fun d => d.parameters.length) = some n) (hy1 : y.name = "<init>") (hn : As.length = n) (hd : d' + 1 ≤ d) (hm : maxL ≤ 45) (hs8 : (rest.map fun v => v.category).sum ≤ 8)
    (kn : ∀ (r : β) (s1 : cS) (v : Option Value), ρ' r = .inl v → GC X Y M (K r s1) s1 (pc + 3) lv (v.toList ++ rest)) (kx : ∀ (r : β) (s1 : cS) (x : Nat), ρ' r = .inr x → GX X Y M (K r s1) s1 pc lv x) : GC X Y M (ob f K) s pc lv (As.reverse ++ .ref b :: rest) := by
  refine gc_after (len := 3) (rest := rest) (fun r1 s1 hf => ⟨(hM r1 s1 hf).1, fun ad H locs cells slots ls hH hR hg h1 h2 => ?_⟩) (fun v hv => mem_st2 hv) kn kx
  have hc := (hM r1 s1 hf).2
  obtain ⟨p, l, e, R, z, m, args, below, meth, c⟩ := X
  have hP := hC.pre (H := H) (maxL := maxL) hd hm h1 h2
  refine ⟨((Value.ref b :: As).map (tv ad)).toArray, c_run fun T hT XS => ?_⟩
  obtain ⟨⟨hx, hb, hown, hts, hlk⟩, hB, -⟩ := hC
  exact vx_callI XS hx hown hy1 (hts _ w1) (hts _ w2) (hts _ w5) hy.1 (c_back hP hc w5 w4) rfl (hg.1.1.trans hnL.symm) (a := ad b) (argsL := As.map (tv ad)) (rest := rest.map (tv ad)) (hy_len hy.2 hn) st_map (by show 2 * 0 + _ ≤ 8; rw [cat_map]; omega) (by rw [hb]; exact hdg) (c_pre hP hT hH (fun v hv => hR.2 v (mem_st hv)) rfl)
theorem gc_callIN (hC : cOk X Y own cc d) (hnL : gLoc X = M.1) (hM : cFn (gLn X) Y y (ws_ y bytes maxL none) d' (.ref b :: As) s f ρ') (hdg : decode cc pc = .ok (.invokespecial index, 3)) (w1 : Cond.methodLinkNest own index y host ∈ lw_tbl) (w2 : Cond.instanceMethod y ∈ lw_all) (w4 : Cond.initialized y.cls ∈ lw_all) (w5 : Cond.code y bytes maxL none ∈ lw_all)
    (hy : (y.cls ≠ "java/lang/invoke/MethodHandle" ∧ y.cls ≠ "java/lang/invoke/VarHandle") ∧ (parseMethodDescriptor y.desc).map (fun d => d.parameters.length) = some n) (hy1 : y.name = "<init>") (hn : As.length = n) (hd : d' + 1 ≤ d) (hm : maxL ≤ 45) (hs8 : (rest.map fun v => v.category).sum ≤ 8)
    (kn : ∀ (r : β) (s1 : cS) (v : Option Value), ρ' r = .inl v → GC X Y M (K r s1) s1 (pc + 3) lv (v.toList ++ rest)) (kx : ∀ (r : β) (s1 : cS) (x : Nat), ρ' r = .inr x → GX X Y M (K r s1) s1 pc lv x) : GC X Y M (ob f K) s pc lv (As.reverse ++ .ref b :: rest) := by
  refine gc_after (len := 3) (rest := rest) (fun r1 s1 hf => ⟨(hM r1 s1 hf).1, fun ad H locs cells slots ls hH hR hg h1 h2 => ?_⟩) (fun v hv => mem_st2 hv) kn kx
  have hc := (hM r1 s1 hf).2
  obtain ⟨p, l, e, R, z, m, args, below, meth, c⟩ := X
  have hP := hC.pre (H := H) (maxL := maxL) hd hm h1 h2
  refine ⟨((Value.ref b :: As).map (tv ad)).toArray, c_run fun T hT XS => ?_⟩
  obtain ⟨⟨hx, hb, hown, hts, hlk⟩, hB, -⟩ := hC
  exact vx_callIN XS hx hown hy1 (va_Nw.use rfl (hB.2.1.2.1 _ _ _ _ w1)) (hts _ w2) (hts _ w5) hy.1 (c_back hP hc w5 w4) rfl (hg.1.1.trans hnL.symm) (a := ad b) (argsL := As.map (tv ad)) (rest := rest.map (tv ad)) (hy_len hy.2 hn) st_map (by show 2 * 0 + _ ≤ 8; rw [cat_map]; omega) (by rw [hb]; exact hdg) (c_pre hP hT hH (fun v hv => hR.2 v (mem_st hv)) rfl)
theorem gc_callS (hC : cOk X Y own cc d) (hnL : gLoc X = M.1) (hM : cFn (gLn X) Y y (ws_ y bytes maxL ret) d' As s f ρ') (hdg : decode cc pc = .ok (.invokestatic index, 3)) (w1 : Cond.methodLink own index y ∈ lw_all) (w2 : Cond.static y ∈ lw_all) (w4 : Cond.initialized y.cls ∈ lw_all) (w5 : Cond.code y bytes maxL ret ∈ lw_all)
    (hy : (y.cls ≠ "java/lang/invoke/MethodHandle" ∧ y.cls ≠ "java/lang/invoke/VarHandle") ∧ (parseMethodDescriptor y.desc).map (fun d => d.parameters.length) = some n) (hn : As.length = n) (hd : d' + 1 ≤ d) (hm : maxL ≤ 45) (hs8 : (rest.map fun v => v.category).sum ≤ 8)
    (kn : ∀ (r : β) (s1 : cS) (v : Option Value), ρ' r = .inl v → GC X Y M (K r s1) s1 (pc + 3) lv (v.toList ++ rest)) (kx : ∀ (r : β) (s1 : cS) (x : Nat), ρ' r = .inr x → GX X Y M (K r s1) s1 pc lv x) : GC X Y M (ob f K) s pc lv (As.reverse ++ rest) := by
  refine gc_after (len := 3) (rest := rest) (fun r1 s1 hf => ⟨(hM r1 s1 hf).1, fun ad H locs cells slots ls hH hR hg h1 h2 => ?_⟩) (fun v hv => List.mem_append_right _ hv) kn kx
  have hc := (hM r1 s1 hf).2
  obtain ⟨p, l, e, R, z, m, args, below, meth, c⟩ := X
  have hP := hC.pre (H := H) (maxL := maxL) hd hm h1 h2
  refine ⟨(As.map (tv ad)).toArray, c_run fun T hT XS => ?_⟩
  obtain ⟨⟨hx, hb, hown, hts, hlk⟩, hB, -⟩ := hC
  exact vx_callS XS hx hown (hts _ w1) (hts _ w2) (hts _ w4) (hts _ w5) hy.1 (c_back hP hc w5 w4) rfl (hg.1.1.trans hnL.symm) (argsL := As.map (tv ad)) (rest := rest.map (tv ad)) (hy_len hy.2 hn) st_mapS (by show 2 * 0 + _ ≤ 8; rw [cat_map]; omega) (by rw [hb]; exact hdg) (c_pre hP hT hH (fun v hv => hR.2 v (List.mem_append_left _ (List.mem_reverse.mpr hv))) rfl)
theorem gc_callSN (hC : cOk X Y own cc d) (hnL : gLoc X = M.1) (hM : cFn (gLn X) Y y (ws_ y bytes maxL ret) d' As s f ρ') (hdg : decode cc pc = .ok (.invokestatic index, 3)) (w1 : Cond.methodLinkNest own index y host ∈ lw_tbl) (w2 : Cond.static y ∈ lw_all) (w4 : Cond.initialized y.cls ∈ lw_all) (w5 : Cond.code y bytes maxL ret ∈ lw_all)
    (hy : (y.cls ≠ "java/lang/invoke/MethodHandle" ∧ y.cls ≠ "java/lang/invoke/VarHandle") ∧ (parseMethodDescriptor y.desc).map (fun d => d.parameters.length) = some n) (hn : As.length = n) (hd : d' + 1 ≤ d) (hm : maxL ≤ 45) (hs8 : (rest.map fun v => v.category).sum ≤ 8)
    (kn : ∀ (r : β) (s1 : cS) (v : Option Value), ρ' r = .inl v → GC X Y M (K r s1) s1 (pc + 3) lv (v.toList ++ rest)) (kx : ∀ (r : β) (s1 : cS) (x : Nat), ρ' r = .inr x → GX X Y M (K r s1) s1 pc lv x) : GC X Y M (ob f K) s pc lv (As.reverse ++ rest) := by
  refine gc_after (len := 3) (rest := rest) (fun r1 s1 hf => ⟨(hM r1 s1 hf).1, fun ad H locs cells slots ls hH hR hg h1 h2 => ?_⟩) (fun v hv => List.mem_append_right _ hv) kn kx
  have hc := (hM r1 s1 hf).2
  obtain ⟨p, l, e, R, z, m, args, below, meth, c⟩ := X
  have hP := hC.pre (H := H) (maxL := maxL) hd hm h1 h2
  refine ⟨(As.map (tv ad)).toArray, c_run fun T hT XS => ?_⟩
  obtain ⟨⟨hx, hb, hown, hts, hlk⟩, hB, -⟩ := hC
  exact vx_callSN XS hx hown (va_Nw.use rfl (hB.2.1.2.1 _ _ _ _ w1)) (hts _ w2) (hts _ w4) (hts _ w5) hy.1 (c_back hP hc w5 w4) rfl (hg.1.1.trans hnL.symm) (argsL := As.map (tv ad)) (rest := rest.map (tv ad)) (hy_len hy.2 hn) st_mapS (by show 2 * 0 + _ ≤ 8; rw [cat_map]; omega) (by rw [hb]; exact hdg) (c_pre hP hT hH (fun v hv => hR.2 v (List.mem_append_left _ (List.mem_reverse.mpr hv))) rfl)
end GCJ
