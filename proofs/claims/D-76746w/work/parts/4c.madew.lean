/-! rows in a made class's frame -/
def mIn (Y : cY) (σ : Lambda.Shape) (nm : String) (B : ByteArray) (nL : Nat) (ret : Option FieldType) (d mc ms : Nat) (X : gCx) : Prop := match X with
  | (p, _, _, R, s, m, _, _, meth, c) => p.tables.exec = Jvm.exec ∧ c.code = B ∧ c.maxLocals = nL ∧ c.exceptionTable.toList = [] ∧ meth.locks = false ∧ meth.sig.returnType = ret ∧ mdAt s.vm m.cls σ nm ∧ lwW s ∧ cB Y s ∧ R.frames = d + 17 ∧ R.locals = 64 * d + 10464 ∧ R.cells = mc ∧ R.slots = ms
section MIN
variable {p : Program} {l : Launch} {e : Env} {R : Room} {s : State} {m : MethodId} {args : Array Value} {below : List Frame} {meth : Method} {c : Code} {H : Heap} {locs : List Loc} {cells slots : Nat} {Q : State → Prop} {ls : Array Slot} {rest : List Value} {pc : Nat}
variable {Y : cY} {σ : Lambda.Shape} {nm : String} {B : ByteArray} {nL d mc ms : Nat} {ret : Option FieldType}
theorem wm_getf (hI : mIn Y σ nm B nL ret d mc ms (p, l, e, R, s, m, args, below, meth, c)) {ds : String} (hF : mdF σ nm ds) (hO0 : Cond.instantiable "java/lang/Object" 0 ∈ lw_all) {a : Addr} {cell : Cell} {v : Value} (hcell : H[a]? = some cell) (hvm : cell.vm = .none) (hv : cell.slots[0]? = some v) (hdg : decode B pc = .ok (.getfield 15, 3))
    (k : W p l e R s m args below meth c H locs cells slots Q (F0 m (pc + 3) ls (v :: rest))) : W p l e R s m args below meth c H locs cells slots Q (F0 m pc ls (.ref a :: rest)) := by
  obtain ⟨hx, hb, -, -, -, -, hmd, hts, -⟩ := hI
  intro T hT X
  obtain ⟨t, a1, b1⟩ := k T hT X
  obtain ⟨f0, hr, hst, hsl⟩ := (hmd.moved X.warmed).fld hF (hts _ hO0 #[] T X.warmed)
  refine ⟨t, ?_, b1⟩
  jvm_step X.here [hx, hb, hdg, Jvm.Op.getfield.wp_ready (e := e) (s := T) (c := m.cls) (field := f0) (a := a) (rest := rest) (cell := cell) (v := v) (f := F0 m pc ls (.ref a :: rest)) X.here.top hr hst rfl (by rw [hT]; exact hcell) (by rw [hvm]; exact fun h => by cases h) (by rw [hsl]; exact hv)]
  exact a1
theorem wm_cast (hI : mIn Y σ nm B nL ret d mc ms (p, l, e, R, s, m, args, below, meth, c)) {nc : String} {x : ClassId} (hK : mdK σ nm nc) (hx0 : ClassAt s nc x) {a : Addr} {cell : Cell} (hcell : H[a]? = some cell) (hvm : cell.vm = .none) (hcls : cell.cls = x) (hdg : decode B pc = .ok (.checkcast 19, 3))
    (k : W p l e R s m args below meth c H locs cells slots Q (F0 m (pc + 3) ls (.ref a :: rest))) : W p l e R s m args below meth c H locs cells slots Q (F0 m pc ls (.ref a :: rest)) := by
  obtain ⟨hx, hb, -, -, -, -, hmd, hts, -⟩ := hI
  intro T hT X
  obtain ⟨t, a1, b1⟩ := k T hT X
  have hfc : T.vm.findClass nc = some x := by rw [X.warmed.alike.findClass]; exact hx0.1
  obtain ⟨kx, hkx, -⟩ := hx0.2
  obtain ⟨kx', hkx', -⟩ := X.warmed.alike.2.2 _ _ hkx
  have hr := (hmd.moved X.warmed).cast hK hfc
  have has : T.vm.assignable cell.cls x = true := by rw [hcls, X.warmed.alike.assignable]; exact va_assign hx0
  refine ⟨t, ?_, b1⟩
  jvm_step X.here [hx, hb, hdg, Jvm.Op.checkcast.wp_ready (e := e) (s := T) (c := x) (x := .ref a) (rest := rest) (f := F0 m pc ls (.ref a :: rest)) X.here.top hr rfl]
  exact ⟨cell, by rw [hT]; exact hcell, (fun z h => by rw [hvm] at h; cases h), kx', by rw [hcls]; exact hkx', kx', hkx', by rw [if_pos has]; exact a1⟩
/-- what the target's contract gives in this frame -/
theorem wm_back (hI : mIn Y σ nm B nL ret d mc ms (p, l, e, R, s, m, args, below, meth, c)) {y : MethodName} {bytes : ByteArray} {maxL : Nat} {rt : Option FieldType} {As : List Value} {cs cs1 : cS} {out : Option Value ⊕ Nat} {ad : Nat → Nat} (hM : cCt l Y y (ws_ y bytes maxL rt) d As cs out cs1) (hm : maxL ≤ 45) (hw : Cond.code y bytes maxL rt ∈ lw_all) (hini : Cond.initialized y.cls ∈ lw_all) {len : Nat} :
    vx_Back l R p e below s args y len 8 (PreOf R (cn cs1 - cn cs) (cz cs1 - cz cs) (cPc Y ad cs As)) (PostOf (cQc Y cs ad out cs1) (cn cs1 - cn cs) (cz cs1 - cz cs) Y.2.2.2.1) (gx_Post (cXq Y cs ad out cs1) (cn cs1 - cn cs) (cz cs1 - cz cs) Y.2.2.2.1) := by
  obtain ⟨-, -, -, -, -, -, -, hts, -, hfr, hlo, -⟩ := hI
  have hts0 : ∀ w ∈ lw_all, w.before args s = true := fun w hw => hts w hw args s (State.WarmedH.refl s)
  refine gx_back (bytes := bytes) (maxL := maxL) (ret := rt) (hM ad) cPc_blind rfl rfl (by show d + 16 + 1 ≤ R.frames; omega) (by show 8 + (maxL + 11) + (64 * d + 10400) ≤ R.locals; omega) (pay_in hts0 (lw_meth hw)) List.mem_cons_self (fun a' U hW => word_at hW (Or.inl (by first | rfl | simp [Cond.onTables, Cond.keeps, Cond.steady])) (hts0 _ hini))
theorem lam_tgt {U : State} {m : MethodId} {mi ci mnt cu : Nat} {y : MethodName} {mB : MethodId} (hmd : mdAt U.vm m.cls σ nm) (hT : mdT σ nm mi ci mnt cu) (hσ : σ.implClass = y.cls ∧ σ.implName = y.name ∧ σ.implDesc.toString = y.desc) (hitf : σ.implItf = false) (hy : y.cls ≠ "java/lang/invoke/MethodHandle" ∧ y.cls ≠ "java/lang/invoke/VarHandle") (hnB : U.methodNamed? y = some mB) :
    ∃ tk : Class, U.vm.classes[mB.cls]? = some tk ∧ tk.isInterface = false ∧ (∀ z : Method, signaturePolymorphic tk z = false) ∧ U.vm.methodReady m.cls mi mB ∧ plainRef U e m.cls mi ∧ namesAClass U m.cls mi := by
  obtain ⟨k, tk, file, t, tgt, hk, hfile, ht, htk, hti, hlook, hready, hcr, hp, hnt⟩ := hmd.tgt hT
  rw [hσ.1] at ht
  rw [hσ.2.1, hσ.2.2] at hlook hnt
  have hfT : U.vm.findClass y.cls = some mB.cls := findClass_of_methodNamed hnB
  cases Option.some.inj (ht.symm.trans hfT)
  obtain ⟨kT', hkT', hnameT⟩ := className_of_methodNamed hnB
  cases Option.some.inj (htk.symm.trans hkT')
  have htB : tgt = mB := by
    have h1 : U.methodFound? y.cls y.name y.desc = some mB := State.methodFound?_of_named hnB hy
    simp only [State.methodFound?, hfT, htk, Option.bind_eq_bind, Option.bind_some] at h1
    rw [hlook] at h1
    exact Option.some.inj h1
  subst htB
  have hsp : ∀ z : Method, signaturePolymorphic tk z = false := fun z => by simp [signaturePolymorphic, hnameT, hy.1, hy.2]
  obtain ⟨b, hmem⟩ := memberRef_ask' (e := e) (vm := U.vm) (d := m.cls) (index := mi) hk hfile (Or.inl hp) hnt
  rw [hitf] at hti
  exact ⟨tk, htk, hti, hsp, hready, ⟨ci, _, _, b, tgt.cls, tk, hmem, hcr, htk, by simp [hsp]⟩, ⟨k, file, ci, mnt, tgt.cls, tk, hk, hfile, hp, hcr, htk, hti⟩⟩
set_option maxRecDepth 100000 in
theorem wm_callS (hI : mIn Y σ nm B nL ret d mc ms (p, l, e, R, s, m, args, below, meth, c)) {mi ci mnt cu n : Nat} {y : MethodName} (hT : mdT σ nm mi ci mnt cu) (hσ : σ.implClass = y.cls ∧ σ.implName = y.name ∧ σ.implDesc.toString = y.desc) (hitf : σ.implItf = false)
    {bytes : ByteArray} {maxL : Nat} {rt : Option FieldType} {As : List Value} {cs cs1 : cS} {out : Option Value ⊕ Nat} {ad : Nat → Nat} (hM : cCt l Y y (ws_ y bytes maxL rt) d As cs out cs1) (hm : maxL ≤ 45) (w2 : Cond.static y ∈ lw_all) (w4 : Cond.initialized y.cls ∈ lw_all) (w5 : Cond.code y bytes maxL rt ∈ lw_all)
    (hy : (y.cls ≠ "java/lang/invoke/MethodHandle" ∧ y.cls ≠ "java/lang/invoke/VarHandle") ∧ (parseMethodDescriptor y.desc).map (fun d => d.parameters.length) = some n) (hn : As.length = n) (hls : ls.size = nL) (hmc : cn cs1 - cn cs ≤ mc) (hms : cz cs1 - cz cs ≤ ms) (hdg : decode B pc = .ok (.invokestatic mi, 3)) (hH : cH Y ad cs H) (hv : ∀ v ∈ As, vOk cs v) :
    cRun (p, l, e, R, s, m, args, below, meth, c) H [] 0 0 (cn cs1 - cn cs) (cz cs1 - cz cs) (F0 m pc ls (As.map (tv ad)).reverse) 3 [] (cQc Y cs ad out cs1 (As.map (tv ad)).toArray) (cXq Y cs ad out cs1) Y.2.2.2.1 := by
  refine c_run (len := 3) (av := (As.map (tv ad)).toArray) fun T hTH X => ?_
  have hK := wm_back (ad := ad) (len := 3) hI hM hm w5 w4
  obtain ⟨hx, hb, hnL, -, -, -, hmd, hts, hcB, hfr, hlo, hrc, hrs⟩ := hI
  have hts0 : ∀ w ∈ lw_all, w.before args s = true := fun w hw => hts w hw args s (State.WarmedH.refl s)
  obtain ⟨mk, hnamed⟩ := Cond.code_named (hts0 _ w5)
  obtain ⟨methM, cM, hmethM, -, -, -, -, -, -, hsigM⟩ := Cond.code_spec hnamed (hts0 _ w5)
  have hstatic : methM.isStatic = true := Cond.static_spec hnamed hmethM (hts0 _ w2)
  obtain ⟨kP, hkP, -⟩ := className_of_methodNamed hnamed
  have hnT := X.named hnamed
  obtain ⟨tk, htk, hti, hsp, hready, href, -⟩ := lam_tgt (e := e) (hmd.moved X.warmed) hT hσ hitf hy.1 hnT
  have hinit : tk.init = .initialized := Cond.initialized_spec (findClass_of_methodNamed hnT) htk (hts _ w4 args T X.warmed)
  have hmT : T.vm.method? mk = some methM := by rw [X.warmed.alike.method?]; exact hmethM
  have hlen := hy_len (ad := ad) hy.2 hn _ hsigM
  rcases hK m meth c ⟨T, [], 0, 0⟩ (F0 m pc ls []) (.invokestatic mi) mk (As.map (tv ad)).toArray X rfl (hls.trans hnL.symm) (by rw [hb]; exact hdg) (by show 2 * 0 + 0 ≤ 8; decide) hnT
      ⟨by show 0 + _ ≤ R.cells; omega, by show 0 + _ ≤ R.slots; omega, rfl, by show cH Y ad cs T.heap; rw [hTH]; exact hH, cB.moved X.warmed hcB, hv⟩ with ⟨v, B', X', hpost, hsteps⟩ | ⟨q, B', X', hpost, hsteps⟩
  · refine Or.inl ⟨v, T.vm, B', X.warmed, X', hpost, fun target h => ?_⟩
    jvm_step X.here [hx, hb, hdg, Jvm.Op.invokestatic.wp_ready (e := e) (s := T) (m := mk) (k := tk) (meth := methM) (args := As.map (tv ad)) (rest := []) (f := F0 m pc ls (As.map (tv ad)).reverse) X.here.top href hready htk hmT (hsp _) hstatic hinit hlen (by simp)]
    intro acts
    rw [doInvoke_state]
    exact hsteps.trans h
  · refine Or.inr ⟨q, T.vm, B', X.warmed, X', hpost, ?_⟩
    jvm_step X.here [hx, hb, hdg, Jvm.Op.invokestatic.wp_ready (e := e) (s := T) (m := mk) (k := tk) (meth := methM) (args := As.map (tv ad)) (rest := []) (f := F0 m pc ls (As.map (tv ad)).reverse) X.here.top href hready htk hmT (hsp _) hstatic hinit hlen (by simp)]
    intro acts
    rw [doInvoke_state]
    exact hsteps
set_option maxRecDepth 100000 in
theorem wm_callV (hI : mIn Y σ nm B nL ret d mc ms (p, l, e, R, s, m, args, below, meth, c)) {mi ci mnt cu n b : Nat} {y : MethodName} (hT : mdT σ nm mi ci mnt cu) (hσ : σ.implClass = y.cls ∧ σ.implName = y.name ∧ σ.implDesc.toString = y.desc) (hitf : σ.implItf = false)
    {bytes : ByteArray} {maxL : Nat} {rt : Option FieldType} {As : List Value} {cs cs1 : cS} {out : Option Value ⊕ Nat} {ad : Nat → Nat} (hM : cCt l Y y (ws_ y bytes maxL rt) d (.ref b :: As) cs out cs1) (hm : maxL ≤ 45) {cI : Nat} {r : vw_C} (hk : cK cs b = cI + 1) (hr : ccl[cI]? = some r) (w2 : Cond.instanceMethod y ∈ lw_all) (w3 : Cond.selects r.1 y y ∈ lw_all) (w4 : Cond.initialized y.cls ∈ lw_all) (w5 : Cond.code y bytes maxL rt ∈ lw_all)
    (hy : (y.cls ≠ "java/lang/invoke/MethodHandle" ∧ y.cls ≠ "java/lang/invoke/VarHandle") ∧ (parseMethodDescriptor y.desc).map (fun d => d.parameters.length) = some n) (hn : As.length = n) (hls : ls.size = nL) (hmc : cn cs1 - cn cs ≤ mc) (hms : cz cs1 - cz cs ≤ ms) (hdg : decode B pc = .ok (.invokevirtual mi, 3)) (hH : cH Y ad cs H) (hv : ∀ v ∈ (.ref b :: As), vOk cs v) :
    cRun (p, l, e, R, s, m, args, below, meth, c) H [] 0 0 (cn cs1 - cn cs) (cz cs1 - cz cs) (F0 m pc ls ((As.map (tv ad)).reverse ++ [.ref (ad b)])) 3 [] (cQc Y cs ad out cs1 ((Value.ref b :: As).map (tv ad)).toArray) (cXq Y cs ad out cs1) Y.2.2.2.1 := by
  refine c_run (len := 3) (av := ((Value.ref b :: As).map (tv ad)).toArray) fun T hTH X => ?_
  have hK := wm_back (ad := ad) (len := 3) hI hM hm w5 w4
  obtain ⟨hx, hb, hnL, -, -, -, hmd, hts, hcB, hfr, hlo, hrc, hrs⟩ := hI
  have hts0 : ∀ w ∈ lw_all, w.before args s = true := fun w hw => hts w hw args s (State.WarmedH.refl s)
  obtain ⟨cell, q1, q2, q3, -⟩ := hH.obj hk hr
  obtain ⟨mk, methM, hnamed, hmethM, hstM, habM⟩ := Cond.instanceMethod_spec (hts0 _ w2)
  obtain ⟨methM', cM, hmethM', -, -, -, -, -, -, hsigM⟩ := Cond.code_spec hnamed (hts0 _ w5)
  cases Option.some.inj (hmethM.symm.trans hmethM')
  have hnT := X.named hnamed
  obtain ⟨tk, htk, hti, hsp, hready, -, hnc⟩ := lam_tgt (e := e) (hmd.moved X.warmed) hT hσ hitf hy.1 hnT
  have hmT : T.vm.method? mk = some methM := by rw [X.warmed.alike.method?]; exact hmethM
  have hfcT : T.vm.findClass r.1 = some cell.cls := by rw [X.warmed.alike.findClass, q2]; exact (hcB.1.1 cI _ hr).2.1
  obtain ⟨c2, r2, m2, g1, g2, g3, g4, -⟩ := Cond.selects_spec (hts _ w3 args T X.warmed)
  cases Option.some.inj (hfcT.symm.trans g1)
  cases Option.some.inj ((State.methodFound?_of_named hnT hy.1).symm.trans g2)
  cases Option.some.inj (hnT.symm.trans g3)
  have hsel : selectMethod e.platform T.vm cell.cls mk = .method mk := by rw [Launch.admits_selectMethod X.admits]; exact g4
  have hlen := hy_len (ad := ad) hy.2 hn _ hsigM
  rcases hK m meth c ⟨T, [], 0, 0⟩ (F0 m pc ls []) (.invokevirtual mi) mk ((Value.ref b :: As).map (tv ad)).toArray X rfl (hls.trans hnL.symm) (by rw [hb]; exact hdg) (by show 2 * 0 + 0 ≤ 8; decide) hnT
      ⟨by show 0 + _ ≤ R.cells; omega, by show 0 + _ ≤ R.slots; omega, rfl, by show cH Y ad cs T.heap; rw [hTH]; exact hH, cB.moved X.warmed hcB, hv⟩ with ⟨v, B', X', hpost, hsteps⟩ | ⟨q, B', X', hpost, hsteps⟩
  · refine Or.inl ⟨v, T.vm, B', X.warmed, X', hpost, fun target h => ?_⟩
    jvm_step X.here [hx, hb, hdg, Jvm.Op.invokevirtual.wp_ready (e := e) (s := T) (r := mk) (m := mk) (k := tk) (mk := tk) (rmeth := methM) (meth := methM) (a := ad b) (args := As.map (tv ad)) (rest := []) (cell := cell) (f := F0 m pc ls ((As.map (tv ad)).reverse ++ [.ref (ad b)])) X.here.top hnc hready htk hmT (hsp _) hstM hlen rfl (by rw [hTH]; exact q1) (fun z h => by rw [q3] at h; cases h) hsel hmT habM htk hti]
    intro acts
    rw [doInvoke_state]
    exact hsteps.trans h
  · refine Or.inr ⟨q, T.vm, B', X.warmed, X', hpost, ?_⟩
    jvm_step X.here [hx, hb, hdg, Jvm.Op.invokevirtual.wp_ready (e := e) (s := T) (r := mk) (m := mk) (k := tk) (mk := tk) (rmeth := methM) (meth := methM) (a := ad b) (args := As.map (tv ad)) (rest := []) (cell := cell) (f := F0 m pc ls ((As.map (tv ad)).reverse ++ [.ref (ad b)])) X.here.top hnc hready htk hmT (hsp _) hstM hlen rfl (by rw [hTH]; exact q1) (fun z h => by rw [q3] at h; cases h) hsel hmT habM htk hti]
    intro acts
    rw [doInvoke_state]
    exact hsteps
theorem va_F_eq {A : Nat → Prop} {a a' b b' : State} (h : va_F A a b) (ha : a.heap = a'.heap) (hb : b.heap = b'.heap) : va_F A a' b' := by
  unfold va_F at h ⊢
  rw [← ha, ← hb]
  exact h
/-- behind the target: an int is returned -/
theorem wm_iret (hI : mIn Y σ nm B nL (some .boolean) d mc ms (p, l, e, R, s, m, args, below, meth, c)) {cs cs1 : cS} {ad : Nat → Nat} {st : List Value} {x : Int32} {av : Array Value} {mc' ms' : Nat} (hsH : s.heap = H) (hz : x = nI 0 ∨ x = nI 1) (hdg : decode B (pc + 3) = .ok (.ireturn, 1))
    (hrun : cRun (p, l, e, R, s, m, args, below, meth, c) H [] 0 0 mc' ms' (F0 m pc ls st) 3 [] (cQc Y cs ad (.inl (some (.int x))) cs1 av) (cXq Y cs ad (.inl (some (.int x))) cs1) Y.2.2.2.1) :
    W p l e R s m args below meth c H [] 0 0 (gx_MQ below (cQc Y cs ad (.inl (some (.int x))) cs1) (cXq Y cs ad (.inl (some (.int x))) cs1) args s mc' ms' Y.2.2.2.1) (F0 m pc ls st) := by
  obtain ⟨hx, hb, hnL, -, hlk, hret, -⟩ := hI
  intro T hT X
  rcases hrun T hT X with ⟨v, st₀, t, T', L, g0, X', hL, e1, e2, hq, hgo⟩ | ⟨q, st₀, t, T', L, g0, X', hL, e1, e2, hq, hgo⟩
  · obtain ⟨ad', v2, k1, k2, k3, k4, k5, k6⟩ := hq
    cases k1
    cases k2
    have w : W p l e R s m args below meth c T'.heap ([] ++ L) (0 + mc') (0 + ms') (gx_MQ below (cQc Y cs ad (.inl (some (.int x))) cs1) (cXq Y cs ad (.inl (some (.int x))) cs1) args s mc' ms' Y.2.2.2.1) (F0 m (pc + 3) ls [.int x]) := by
      rw [Nat.zero_add, Nat.zero_add]
      exact gx_ret (W.zret (v := x) hx hb hret (nar_z hz) (fun u hu hW => ⟨ad', some (.int x), rfl, rfl, k3, by rw [hu, e1]; exact k4, k5, va_F_eq k6 (g0.trans hsH.symm) (by rw [hu, e1])⟩) (by rw [List.nil_append]; exact hL) hdg hlk)
    obtain ⟨t3, a1, b1⟩ := w T' rfl X'
    exact ⟨t3, hgo t3 a1, b1⟩
  · obtain ⟨ad', x', k1, -⟩ := hq
    cases k1
theorem wm_vret (hI : mIn Y σ nm B nL none d mc ms (p, l, e, R, s, m, args, below, meth, c)) {cs cs1 : cS} {ad : Nat → Nat} {st : List Value} {out : Option Value ⊕ Nat} {av : Array Value} {mc' ms' : Nat} (hsH : s.heap = H) (hout : out = .inl none ∨ ∃ q, out = .inr q) (hdg : decode B (pc + 3) = .ok (.return_, 1))
    (hrun : cRun (p, l, e, R, s, m, args, below, meth, c) H [] 0 0 mc' ms' (F0 m pc ls st) 3 [] (cQc Y cs ad out cs1 av) (cXq Y cs ad out cs1) Y.2.2.2.1) :
    W p l e R s m args below meth c H [] 0 0 (gx_MQ below (cQc Y cs ad out cs1) (cXq Y cs ad out cs1) args s mc' ms' Y.2.2.2.1) (F0 m pc ls st) := by
  obtain ⟨hx, hb, hnL, htab, hlk, hret, -⟩ := hI
  intro T hT X
  rcases hrun T hT X with ⟨v, st₀, t, T', L, g0, X', hL, e1, e2, hq, hgo⟩ | ⟨q, st₀, t, T', L, g0, X', hL, e1, e2, hq, hgo⟩
  · obtain ⟨ad', v2, k1, k2, k3, k4, k5, k6⟩ := hq
    rcases hout with rfl | ⟨q, rfl⟩
    · cases k1
      cases k2
      have w : W p l e R s m args below meth c T'.heap ([] ++ L) (0 + mc') (0 + ms') (gx_MQ below (cQc Y cs ad (.inl none) cs1) (cXq Y cs ad (.inl none) cs1) args s mc' ms' Y.2.2.2.1) (F0 m (pc + 3) ls []) := by
        rw [Nat.zero_add, Nat.zero_add]
        exact gx_ret (W.vret hx hb hret (fun u hu hW => ⟨ad', none, rfl, rfl, k3, by rw [hu, e1]; exact k4, k5, va_F_eq k6 (g0.trans hsH.symm) (by rw [hu, e1])⟩) (by rw [List.nil_append]; exact hL) hdg hlk)
      obtain ⟨t3, a1, b1⟩ := w T' rfl X'
      exact ⟨t3, hgo t3 a1, b1⟩
    · cases k1
  · obtain ⟨ad', x', k1, k2, k3, k4, k5, k6⟩ := hq
    obtain ⟨st1, hrun1, hend, hW, hsm⟩ := X'.leaveThrown q (g := F0 m pc ls []) rfl rfl rfl (by rw [htab]; exact fun _ h => absurd h List.not_mem_nil) hlk
    refine ⟨_, hgo.trans st1, .threw q, hrun1, hend, Or.inr ⟨q, rfl, [] ++ L, ⟨ad', x', k1, k2, k3, by rw [show (T'.setFrames (.throwing q :: below)).heap = T'.heap from rfl, e1]; exact k4, k5, va_F_eq k6 (g0.trans hsH.symm) (by rw [show (T'.setFrames (.throwing q :: below)).heap = T'.heap from rfl, e1])⟩, hW, hsm.mono (by omega) (by omega), by rw [List.nil_append]; exact hL⟩⟩
end MIN
