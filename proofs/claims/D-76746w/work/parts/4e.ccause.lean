/-! Throwable.getCause(): synchronized; nothing changes -/
section SYI
variable {p : Program} {l : Launch} {e : Env} {R : Room} {s : State} {m : MethodId} {args : Array Value} {below : List Frame} {meth : Method} {c : Code} {T : State} {locs : List Loc} {cells slots : Nat}
theorem sy_into (X : Stand p l e R s m args below meth c T locs cells slots) {g : JFrame} (hg : g.method = m) (hsize : g.locals.size = c.maxLocals) {ig : Instr} {len : Nat} (hdg : decode c.code g.pc = .ok (ig, len))
    {mk : MethodId} {methk : Method} {ck : Code} {a : Addr} {cell : Cell} {R' : Room} (hmk : T.vm.method? mk = some methk) (hck : methk.code = some ck) (hlk : methk.locks = true) (hst : methk.isStatic = false) (hpk : T.plainMethod mk) (hcell : T.heap[a]? = some cell) (hfree : cell.monitor.owner = none)
    (hframes : R'.frames + 1 ≤ R.frames) (hlocals : 2 * g.monitorRoom + (g.stack.map fun v => v.category).sum + (ck.maxLocals + 2 + 11) + R'.locals ≤ R.locals) (hcells : cells + R'.cells ≤ R.cells) (hslots : slots + R'.slots ≤ R.slots) :
    Stand p l e R' ((T.calling g mk #[.ref a]).setCell a (cell.withEntry T.cur)) mk #[.ref a] (.java g :: below) methk ck (((T.setCell a (cell.withEntry T.cur)).setTop g).pushFrame (.java (entryFrameSync mk #[.ref a] ck.maxLocals a))) [] 0 0 ∧
      ∀ acts, (doInvoke e (T.setTop g) acts mk #[.ref a]).1 = (((T.setCell a (cell.withEntry T.cur)).setTop g).pushFrame (.java (entryFrameSync mk #[.ref a] ck.maxLocals a))).setTop (entryFrameSync mk #[.ref a] ck.maxLocals a) := by
  subst hg
  have htop := X.here.top
  have htop' : (T.setCell a (cell.withEntry T.cur)).topJava?.isSome := htop
  have hfc : (T.calling g mk #[.ref a]).frames = .invoking mk #[.ref a] :: .java g :: below := by rw [State.frames_calling htop, X.tail]
  have hfe : (((T.setCell a (cell.withEntry T.cur)).setTop g).pushFrame (.java (entryFrameSync mk #[.ref a] ck.maxLocals a))).frames = .java (entryFrameSync mk #[.ref a] ck.maxLocals a) :: .java g :: below := by
    rw [frames_entered htop']
    show _ :: _ :: T.frames.tail = _
    rw [X.tail]
  obtain ⟨t, ht, -⟩ := State.frames_cons hfc
  have hcur : (T.calling g mk #[.ref a]).cur < (T.calling g mk #[.ref a]).threads.size := State.cur_lt_of_frames hfc
  have hst1 : ((T.setCell a (cell.withEntry T.cur)).setTop g).pushFrame (.java (entryFrameSync mk #[.ref a] ck.maxLocals a)) = ((T.calling g mk #[.ref a]).setCell a (cell.withEntry T.cur)).setFrames (.java (entryFrameSync mk #[.ref a] ck.maxLocals a) :: .java g :: below) := by
    rw [State.calling_eq htop, State.setCell_setFrames, State.setFrames_setFrames]
    obtain ⟨g₀, hg₀⟩ := X.frames_eq
    have hg₁ : (T.setCell a (cell.withEntry T.cur)).frames = .java g₀ :: below := hg₀
    rw [State.pushFrame, State.frames_setTop _ hg₁, State.setTop_of_frames _ hg₁, State.setFrames_setFrames]
  have hcode : (T.calling g mk #[.ref a]).code? g.method = some c := by
    have := X.here.code
    rw [State.code?_eq] at this ⊢
    simpa [State.calling, State.pushFrame, State.setFrames] using this
  have hcodeS : ((T.calling g mk #[.ref a]).setCell a (cell.withEntry T.cur)).code? g.method = some c := hcode
  have hAt : At (((T.setCell a (cell.withEntry T.cur)).setTop g).pushFrame (.java (entryFrameSync mk #[.ref a] ck.maxLocals a))) mk ck (.java g :: below) := by
    have h := At.enter_sync (g := g) X.here #[.ref a] a (cell.withEntry T.cur) hmk hck hpk
    exact ⟨h.top, ⟨[], by rw [hfe]; rfl⟩, h.running, h.runnable, h.alone, h.code, h.plain⟩
  have hcellC : (T.calling g mk #[.ref a]).heap[a]? = some cell := hcell
  refine ⟨⟨X.admits, X.cas, X.clock, hfc, by rw [State.hasRoom_setCell (x := cell.withEntry T.cur) hcellC rfl]; exact X.room_calling hsize hmk hck hframes (by omega) hcells hslots, by simp [State.hears, hcodeS, hdg, Except.toOption], hmk, hck, hAt, by rw [hfe]; rfl,
    State.WarmedH.refl ((T.calling g mk #[.ref a]).setCell a (cell.withEntry T.cur)), by rw [hst1, State.stackLimits_setFrames], by rw [hst1, State.stackBytes_setFrames], ?_⟩, fun acts => ?_⟩
  · have h := (State.sameButNew.refl ((T.calling g mk #[.ref a]).setCell a (cell.withEntry T.cur)) (x := t) ht).setFrames (.java (entryFrameSync mk #[.ref a] ck.maxLocals a) :: .java g :: below) hcur
    rw [hst1]
    exact h
  · exact doInvoke_enter_sync htop acts hmk hck hlk hst rfl hcell (Or.inl hfree) (X.notFull hsize (by omega) (by omega))
end SYI
/-- the field 'cause', as getCause() tells it -/
def cCause (s : cS) (a : Nat) : Option Nat := match cR s 51 a with
  | none => none
  | some u => if u = a then none else some u
def cCok (s : cS) (a : Nat) : Bool := match cR s 51 a with
  | none => true
  | some u => !(Nat.beq (cK s u) 99)
section GCAU
variable {α : Type} {X : gCx} {Y : cY} {M : cMd α} {F : Option (α × cS)} {s : cS} {pc d a : Nat} {lv : List (Nat × Value)} {st : List Value} {cc : ByteArray}
abbrev gcN : MethodName := ⟨"java/lang/Throwable", "getCause", "()Ljava/lang/Throwable;"⟩
abbrev gcX : MethodName := ⟨"ActorTrees$Failure", "getCause", "()Ljava/lang/Throwable;"⟩
theorem gcd0 : decode prog_41_method_8_code 0 = .ok (.aload_n 0, 1) := by decide +kernel
theorem gcd1 : decode prog_41_method_8_code 1 = .ok (.getfield 7, 3) := by decide +kernel
theorem gcd4 : decode prog_41_method_8_code 4 = .ok (.aload_n 0, 1) := by decide +kernel
theorem gcd5 : decode prog_41_method_8_code 5 = .ok (.if_acmp .ne 7, 3) := by decide +kernel
theorem gcd8 : decode prog_41_method_8_code 8 = .ok (.aconst_null, 1) := by decide +kernel
theorem gcd9 : decode prog_41_method_8_code 9 = .ok (.goto 7, 3) := by decide +kernel
theorem gcd12 : decode prog_41_method_8_code 12 = .ok (.aload_n 0, 1) := by decide +kernel
theorem gcd13 : decode prog_41_method_8_code 13 = .ok (.getfield 7, 3) := by decide +kernel
theorem gcd16 : decode prog_41_method_8_code 16 = .ok (.areturn, 1) := by decide +kernel
abbrev mkS (a : Addr) (m : MethodId) (pc : Nat) (Ls : Array Slot) (st : List Value) : JFrame := { method := m, pc := pc, locals := Ls, stack := st, locked := some a, monitorRoom := 1 }
section GCS
variable {p : Program} {l : Launch} {e : Env} {R : Room} {s : State} {m : MethodId} {args : Array Value} {below : List Frame} {meth : Method} {c : Code} {T : State} {locs : List Loc} {cells slots : Nat} {ls : Array Slot} {rest : List Value} {q : Addr} {t : State}
theorem sy_aload0 (X : Stand p l e R s m args below meth c T locs cells slots) (hx : p.tables.exec = Jvm.exec) {pc : Nat} (hdg : decode c.code pc = .ok (.aload_n 0, 1)) {x : Addr} (hl : ls[0]? = some (.val (.ref x))) (k : Steps p.tables e below (T.setTop (mkS q m (pc + 1) ls (.ref x :: rest))) t) : Steps p.tables e below (T.setTop (mkS q m pc ls rest)) t := by
  show Steps p.tables e below (T.setTop { method := m, pc := pc, locals := ls, stack := rest, locked := some q, monitorRoom := 1 }) t
  jvm_step X.here [X.here.top, hx, hdg, hl, Value.isRef]
  exact k
theorem sy_null (X : Stand p l e R s m args below meth c T locs cells slots) (hx : p.tables.exec = Jvm.exec) {pc : Nat} (hdg : decode c.code pc = .ok (.aconst_null, 1)) (k : Steps p.tables e below (T.setTop (mkS q m (pc + 1) ls (.null :: rest))) t) : Steps p.tables e below (T.setTop (mkS q m pc ls rest)) t := by
  show Steps p.tables e below (T.setTop { method := m, pc := pc, locals := ls, stack := rest, locked := some q, monitorRoom := 1 }) t
  jvm_step X.here [X.here.top, hx, hdg, Op.aconst_null.sem]
  exact k
theorem sy_goto (X : Stand p l e R s m args below meth c T locs cells slots) (hx : p.tables.exec = Jvm.exec) {pc tgt : Nat} {off : Int} (hdg : decode c.code pc = .ok (.goto off, 3)) (ht : (pc : Int) + off = (tgt : Int)) (k : Steps p.tables e below (T.setTop (mkS q m tgt ls rest)) t) : Steps p.tables e below (T.setTop (mkS q m pc ls rest)) t := by
  show Steps p.tables e below (T.setTop { method := m, pc := pc, locals := ls, stack := rest, locked := some q, monitorRoom := 1 }) t
  jvm_step X.here [X.here.top, hx, hdg, ht]
  exact k
theorem sy_acmpT (X : Stand p l e R s m args below meth c T locs cells slots) (hx : p.tables.exec = Jvm.exec) {pc tgt : Nat} {off : Int} (hdg : decode c.code pc = .ok (.if_acmp .ne off, 3)) (ht : (pc : Int) + off = (tgt : Int)) {rx : Option Nat} {y : Nat} (hne : rx ≠ some y) (k : Steps p.tables e below (T.setTop (mkS q m tgt ls rest)) t) : Steps p.tables e below (T.setTop (mkS q m pc ls (.ref y :: vr rx :: rest))) t := by
  show Steps p.tables e below (T.setTop { method := m, pc := pc, locals := ls, stack := .ref y :: vr rx :: rest, locked := some q, monitorRoom := 1 }) t
  cases rx with
  | none =>
    jvm_step X.here [X.here.top, hx, hdg, vr, Value.asRef?, Op.if_acmp.holds, ht]
    exact k
  | some x =>
    have hxy : x ≠ y := fun h => hne (by rw [h])
    have hxy' : (x == y) = false := by simp [hxy]
    jvm_step X.here [X.here.top, hx, hdg, vr, Value.asRef?, Op.if_acmp.holds, ht, hxy, hxy']
    exact k
theorem sy_acmpF (X : Stand p l e R s m args below meth c T locs cells slots) (hx : p.tables.exec = Jvm.exec) {pc tgt : Nat} {off : Int} (hdg : decode c.code pc = .ok (.if_acmp .ne off, 3)) (ht : (pc : Int) + off = (tgt : Int)) {y : Nat} (k : Steps p.tables e below (T.setTop (mkS q m (pc + 3) ls rest)) t) : Steps p.tables e below (T.setTop (mkS q m pc ls (.ref y :: .ref y :: rest))) t := by
  show Steps p.tables e below (T.setTop { method := m, pc := pc, locals := ls, stack := .ref y :: .ref y :: rest, locked := some q, monitorRoom := 1 }) t
  jvm_step X.here [X.here.top, hx, hdg, Value.asRef?, Op.if_acmp.holds, ht]
  exact k
theorem sy_aret (X : Stand p l e R s m args below meth c T locs cells slots) (hx : p.tables.exec = Jvm.exec) {pc : Nat} (hdg : decode c.code pc = .ok (.areturn, 1)) (hret : meth.sig.returnType = some (.object "java/lang/Throwable")) {rx : Option Nat} {V : State} (hl : ∀ (f : JFrame) (acts : List Action), f.method = m → f.locked = some q → f.entered = [] → (doReturn e (T.setTop f) acts (some (vr rx))).1 = V) : Steps p.tables e below (T.setTop (mkS q m pc ls (vr rx :: rest))) V := by
  have hm' : T.vm.method? m = some meth := X.method'
  show Steps p.tables e below (T.setTop { method := m, pc := pc, locals := ls, stack := vr rx :: rest, locked := some q, monitorRoom := 1 }) V
  cases rx with
  | none =>
    jvm_step X.here [X.here.top, hx, hdg, hm', hret, narrow, Value.isRef, vr]
    refine ⟨rfl, fun acts => ?_⟩
    rw [show (doReturn e (T.setTop { method := m, pc := pc, locals := ls, stack := rest, locked := some q, monitorRoom := 1 }) acts (some Value.null)).1 = V from hl _ acts rfl rfl rfl]
    exact Steps.refl _
  | some x =>
    jvm_step X.here [X.here.top, hx, hdg, hm', hret, narrow, Value.isRef, vr]
    refine ⟨rfl, fun acts => ?_⟩
    rw [show (doReturn e (T.setTop { method := m, pc := pc, locals := ls, stack := rest, locked := some q, monitorRoom := 1 }) acts (some (Value.ref x))).1 = V from hl _ acts rfl rfl rfl]
    exact Steps.refl _
end GCS
theorem heap_back {H : Heap} {a : Addr} {cell : Cell} (t : ThreadId) (h : H[a]? = some cell) (ho : cell.monitor.owner = none) (hc : cell.monitor.count = 0) : (H.setIfInBounds a (cell.withEntry t)).setIfInBounds a (cell.withEntry t).left = H := by
  rw [Cell.left_withEntry t ho hc, Array.setIfInBounds_setIfInBounds]
  apply Array.ext_getElem?
  intro i
  rw [Array.getElem?_setIfInBounds]
  split
  · rename_i e1
    subst e1
    split
    · exact h.symm
    · rename_i h2
      rw [Array.getElem?_eq_none (by omega)]
  · rfl
set_option maxHeartbeats 4000000 in
set_option maxRecDepth 100000 in
theorem gc_cause (hC : cOk X Y "ActorTrees$Failure" cc d) (hnL : gLoc X = M.1) (hk : cK s a = 10) (hok : cCok s a = true) (hdg : decode cc pc = .ok (.invokevirtual 21, 3)) (hs : (st.map fun v => v.category).sum ≤ 8) (kk : GC X Y M F s (pc + 3) lv (vr (cCause s a) :: st)) : GC X Y M F s pc lv (.ref a :: st) := by
  refine gc_rdB (st' := vr (cCause s a) :: st) (fun ad H locs cells slots Q ls hc1 hc2 hH hR hS g k1 => ?_) (fun ad H hH hR => hR.tail.cons (by
    have hv : vOk s (vr (cR s 51 a)) := hH.vok (f := 51) (by rw [hk]; omega)
    unfold cCause
    cases hx : cR s 51 a with
    | none => trivial
    | some u =>
      rw [hx] at hv
      show vOk s (vr (if u = a then none else some u))
      split
      · trivial
      · exact hv)) kk
  obtain ⟨cell, q1, q2, q3, q5, q4⟩ := hH.obj (ci := 9) hk rfl
  have v51 : cell.slots[Y.1.2 9 0]? = some (vr ((cR s 51 a).map ad)) := by
    have h1 := q4 0 (by decide)
    have h2 : cVal s (cFl 9 0) a = vr (cR s 51 a) := rfl
    rw [h2] at h1
    rw [h1]
    cases cR s 51 a <;> rfl
  have hfin : tv ad (vr (cCause s a)) = vr (if (cR s 51 a).map ad = some (ad a) then none else (cR s 51 a).map ad) := by
    unfold cCause
    cases hx : cR s 51 a with
    | none => rfl
    | some u =>
      have hu : cK s u ≠ 0 := hH.2.2.2.2.1 51 a u (by rw [hk]; omega) hx
      have hu9 : cK s u ≠ 99 := by
        unfold cCok at hok
        rw [hx] at hok
        intro h9
        have hok : (!(Nat.beq (cK s u) 99)) = true := hok
        rw [h9] at hok
        cases hok
      show tv ad (vr (if u = a then none else some u)) = vr (if some (ad u) = some (ad a) then none else some (ad u))
      by_cases e : u = a
      · rw [if_pos e, e, if_pos rfl]; rfl
      · rw [if_neg e, if_neg (fun q => e (hH.2.1 u a hu (by rw [hk]; omega) hu9 (by rw [hk]; omega) (Option.some.inj q)))]; rfl
  obtain ⟨p, l, e, R, z, m, args, below, meth, c⟩ := X
  obtain ⟨⟨hx, hb, hown, hts, hlk⟩, hB, hO, hfr, hlo, hl, hA1, hA2⟩ := hC
  have hfr : d + 16 ≤ R.frames := hfr
  have hlo : 64 * d + 10400 ≤ R.locals := hlo
  obtain ⟨hS1, hfc, kC, hkC, hkind⟩ := hB.1.1 9 _ rfl
  intro T hT XS
  obtain ⟨r0, r, hn, hrm, hstR, hsigR⟩ := va_Decl.abs (hB.2.1.2.2.1 gcN q1028)
  obtain ⟨cn, ck0, r1, hcn, hck0, hni, hf, hn1⟩ := Cond.sameMethod_found (hts _ q1027)
  cases Option.some.inj (hn.symm.trans hn1)
  obtain ⟨mk, methM, hnamed, hmethM, -, habM⟩ := Cond.instanceMethod_spec (hts _ q1030)
  obtain ⟨methM', ckM, hmethM', hckM, hbytesM, hmlM, hretM, hlkM, htabM, hsigM⟩ := Cond.codeSync_spec hnamed (hts _ q1031)
  cases Option.some.inj (hmethM.symm.trans hmethM')
  obtain ⟨methM2, hnamed2, hmethM2, hstM, habM2⟩ : ∃ mk2 : MethodId, z.methodNamed? gcN = some mk2 ∧ z.vm.method? mk2 = some methM ∧ methM.isStatic = false ∧ methM.isAbstract = false := by
    obtain ⟨mk2, methM2, h1, h2, h3, h4⟩ := Cond.instanceMethod_spec (hts _ q1030)
    cases Option.some.inj (hnamed.symm.trans h1)
    cases Option.some.inj (hmethM.symm.trans h2)
    exact ⟨mk, h1, h2, h3, h4⟩
  obtain ⟨c2, r2, m2, g1, g2, g3, g4, kP, hkP, hkPi⟩ := Cond.selects_spec (hts _ q1029)
  have hfound : z.vm.findClass "ActorTrees$Failure" = some cell.cls := by rw [q2]; exact hfc
  cases Option.some.inj (hfound.symm.trans g1)
  cases Option.some.inj (hf.symm.trans g2)
  cases Option.some.inj (hnamed.symm.trans g3)
  obtain ⟨vm₁, X₁, hstep₁⟩ := XS.invokevirtualUp hx hown (hts _ q1026) (hts _ q1027) (owner := "java/lang/Throwable") ⟨by decide +kernel, by decide +kernel⟩ hn hrm hstR (a := ad a) (cell := cell) (by rw [hT]; exact q1) (fun z h => by rw [q3] at h; cases h) (by rw [Launch.admits_selectMethod XS.admits]; exact g4) hmethM habM hkP hkPi (g := F0 m pc ls (.ref (ad a) :: st.map (tv ad))) rfl (argsL := []) (rest := st.map (tv ad)) (by
    have h0 : parseMethodDescriptor gcN.desc = some ⟨[], some (.object "java/lang/Throwable")⟩ := by decide +kernel
    rw [Option.some.inj (hsigR.symm.trans h0)]; rfl) rfl (by rw [hb]; exact hdg)
  have hV : (T.setVm vm₁).heap[ad a]? = some cell := by show T.heap[ad a]? = _; rw [hT]; exact q1
  have hmk1 : (T.setVm vm₁).vm.method? mk = some methM := by rw [X₁.warmed.alike.method?]; exact hmethM
  have hsz : (F0 m pc ls (st.map (tv ad))).locals.size = c.maxLocals := g.1.1.trans hnL.symm
  have hfree : cell.monitor.owner = none := by rw [q5]
  have hcount : cell.monitor.count = 0 := by rw [q5]
  obtain ⟨Y₀, hin⟩ := sy_into X₁ (g := F0 m pc ls (st.map (tv ad))) rfl hsz (ig := .invokevirtual 21) (len := 3) (by rw [hb]; exact hdg) (mk := mk) (R' := { frames := 0, cells := 0, slots := 0, locals := 0 }) hmk1 hckM hlkM hstM (State.plainMethod.of_named (by decide +kernel) (X₁.named hnamed) hmk1) hV hfree
    (by show 0 + 1 ≤ R.frames; omega) (by show 2 * 0 + ((st.map (tv ad)).map fun v => v.category).sum + (ckM.maxLocals + 2 + 11) + 0 ≤ R.locals; rw [cat_map, hmlM]; omega) hc1 hc2
  have hWi : z.WarmedH (((T.setVm vm₁).calling (F0 m pc ls (st.map (tv ad))) mk #[.ref (ad a)]).setCell (ad a) (cell.withEntry (T.setVm vm₁).cur)).vm := X₁.warmed
  have hBi := cB.moved (s := z) (U := ((T.setVm vm₁).calling (F0 m pc ls (st.map (tv ad))) mk #[.ref (ad a)]).setCell (ad a) (cell.withEntry (T.setVm vm₁).cur)) hWi hB
  have htsi := lwW.of hts
  have hownI : (((T.setVm vm₁).calling (F0 m pc ls (st.map (tv ad))) mk #[.ref (ad a)]).setCell (ad a) (cell.withEntry (T.setVm vm₁).cur)).vm.findClass "java/lang/Throwable" = some mk.cls := by rw [hWi.alike.findClass]; exact findClass_of_methodNamed hnamed
  obtain ⟨hS1i, hfci, kCi, hkCi, hkindi⟩ := hBi.1.1 9 _ rfl
  obtain ⟨cfI, kfI, fiI, fI, hiI, hslI⟩ := hS1i 0 (by decide)
  have hstI := (u_facts hfci hkCi (u_lays (fun w hw => htsi w hw #[.ref (ad a)] _ hWi) in_X11 (k := 0) (by decide)) hiI).1
  have hlt : ad a < (T.setVm vm₁).heap.size := (Array.getElem?_eq_some_iff.mp hV).1
  have hU : ((((T.setVm vm₁).setCell (ad a) (cell.withEntry (T.setVm vm₁).cur)).setTop (F0 m pc ls (st.map (tv ad)))).pushFrame (.java (entryFrameSync mk #[.ref (ad a)] ckM.maxLocals (ad a)))).heap[ad a]? = some (cell.withEntry (T.setVm vm₁).cur) := by
    have hlt' : ad a < T.heap.size := hlt
    show (T.heap.setIfInBounds (ad a) (cell.withEntry (T.setVm vm₁).cur))[ad a]? = _
    simp [hlt']
  have hUH : ((((T.setVm vm₁).setCell (ad a) (cell.withEntry (T.setVm vm₁).cur)).setTop (F0 m pc ls (st.map (tv ad)))).pushFrame (.java (entryFrameSync mk #[.ref (ad a)] ckM.maxLocals (ad a)))).heap = H.setIfInBounds (ad a) (cell.withEntry (T.setVm vm₁).cur) := by
    show T.heap.setIfInBounds _ _ = _
    rw [hT]
  have hl0 : (entryFrameSync mk #[.ref (ad a)] ckM.maxLocals (ad a)).locals[0]? = some (.val (.ref (ad a))) := by rw [hmlM]; rfl
  generalize hUe : (((T.setVm vm₁).setCell (ad a) (cell.withEntry (T.setVm vm₁).cur)).setTop (F0 m pc ls (st.map (tv ad)))).pushFrame (.java (entryFrameSync mk #[.ref (ad a)] ckM.maxLocals (ad a))) = U at Y₀ hin hU hUH
  generalize hLe : (entryFrameSync mk #[.ref (ad a)] ckM.maxLocals (ad a)).locals = Ls at hl0
  have hen : entryFrameSync mk #[.ref (ad a)] ckM.maxLocals (ad a) = mkS (ad a) mk 0 Ls [] := by rw [← hLe]
  rw [hen] at hin
  have hslw : (cell.withEntry (T.setVm vm₁).cur).slots[fI.slot]? = some (vr ((cR s 51 a).map ad)) := by
    have h9 : fI.slot = Y.1.2 9 0 := hslI
    rw [h9]; exact v51
  have hknown : (cell.withEntry (T.setVm vm₁).cur).vm ≠ .unknown := by
    show cell.vm ≠ .unknown
    rw [q3]; exact fun h => by cases h
  obtain ⟨v1, Z₁, st1⟩ := Y₀.getfield hx hownI (htsi _ q545 _ _ hWi) hiI hstI hU hknown hslw (g := mkS (ad a) mk 1 Ls [.ref (ad a)]) (rest := []) rfl rfl (by rw [hbytesM]; exact gcd1)
  have hent : cell.enterable ((T.setVm vm₁).calling (F0 m pc ls (st.map (tv ad))) mk #[.ref (ad a)]).cur := Or.inl ⟨hfree, hcount⟩
  have hsC : ((T.setVm vm₁).calling (F0 m pc ls (st.map (tv ad))) mk #[.ref (ad a)]).heap[ad a]? = some cell := hV
  by_cases hq : (cR s 51 a).map ad = some (ad a)
  · rw [if_pos hq] at hfin
    obtain ⟨fs, cT, hcT, hr, hrun, hend, hWe, hsame⟩ := Z₁.leaveSync hsC hent hlkM (v := some (vr none)) (fun h => by rw [hretM] at h; cases h)
    have ecT : cT = cell.withEntry (T.setVm vm₁).cur := Option.some.inj (hcT.symm.trans hU)
    obtain ⟨T', X', hW', hsm', ht'⟩ := X₁.outOf rfl (ig := .invokevirtual 21) (len := 3) (by rw [hb]; exact hdg) hend hWe hsame
    have hH' : T'.heap = H := by
      have e1 : (((U.setVm v1).setCell (ad a) cT.left).setFrames fs).heap = T'.heap := by rw [ht']; rfl
      rw [← e1]
      show U.heap.setIfInBounds (ad a) cT.left = H
      rw [hUH, ecT]
      exact heap_back _ q1 hfree hcount
    obtain ⟨t, a1, b1⟩ := k1 T' hH' (by simpa using X')
    refine ⟨t, hstep₁ _ fun acts => ?_, b1⟩
    rw [doInvoke_state, hin]
    refine Steps.trans (s₂ := T'.setTop { (F0 m pc ls (st.map (tv ad))) with pc := pc + 3, stack := (some (vr none)).toList ++ st.map (tv ad) }) ?_ ?_
    · refine gSteps_weaken (mid := [.java (F0 m pc ls (st.map (tv ad)))]) ?_
      show Steps p.tables e (.java (F0 m pc ls (st.map (tv ad))) :: below) _ _
      have ht2 : T'.setTop { (F0 m pc ls (st.map (tv ad))) with pc := pc + 3, stack := (some (vr none)).toList ++ st.map (tv ad) } = ((U.setVm v1).setCell (ad a) cT.left).setFrames fs := ht'.symm
      rw [ht2]
      refine sy_aload0 Y₀ hx (by rw [hbytesM]; exact gcd0) hl0 ?_
      refine st1 _ ?_
      refine sy_aload0 Z₁ hx (pc := 4) (by rw [hbytesM]; exact gcd4) hl0 ?_
      rw [hq]
      refine sy_acmpF Z₁ hx (by rw [hbytesM]; exact gcd5) (tgt := 12) (by decide) ?_
      refine sy_null Z₁ hx (by rw [hbytesM]; exact gcd8) ?_
      refine sy_goto Z₁ hx (by rw [hbytesM]; exact gcd9) (tgt := 16) (by decide) ?_
      exact sy_aret Z₁ hx (rx := none) (by rw [hbytesM]; exact gcd16) hretM hr
    · have e3 : (vr (cCause s a) :: st).map (tv ad) = (some (vr none)).toList ++ st.map (tv ad) := by
        rw [List.map_cons, hfin]; rfl
      rw [e3] at a1
      exact a1
  · rw [if_neg hq] at hfin
    obtain ⟨v2, Z₂, st2⟩ := Z₁.getfield hx hownI (htsi _ q545 _ _ hWi) hiI hstI hU hknown hslw (g := mkS (ad a) mk 13 Ls [.ref (ad a)]) (rest := []) rfl rfl (by rw [hbytesM]; exact gcd13)
    obtain ⟨fs, cT, hcT, hr, hrun, hend, hWe, hsame⟩ := Z₂.leaveSync hsC hent hlkM (v := some (vr ((cR s 51 a).map ad))) (fun h => by rw [hretM] at h; cases h)
    have ecT : cT = cell.withEntry (T.setVm vm₁).cur := Option.some.inj (hcT.symm.trans hU)
    obtain ⟨T', X', hW', hsm', ht'⟩ := X₁.outOf rfl (ig := .invokevirtual 21) (len := 3) (by rw [hb]; exact hdg) hend hWe hsame
    have hH' : T'.heap = H := by
      have e1 : ((((U.setVm v1).setVm v2).setCell (ad a) cT.left).setFrames fs).heap = T'.heap := by rw [ht']; rfl
      rw [← e1]
      show U.heap.setIfInBounds (ad a) cT.left = H
      rw [hUH, ecT]
      exact heap_back _ q1 hfree hcount
    obtain ⟨t, a1, b1⟩ := k1 T' hH' (by simpa using X')
    refine ⟨t, hstep₁ _ fun acts => ?_, b1⟩
    rw [doInvoke_state, hin]
    refine Steps.trans (s₂ := T'.setTop { (F0 m pc ls (st.map (tv ad))) with pc := pc + 3, stack := (some (vr ((cR s 51 a).map ad))).toList ++ st.map (tv ad) }) ?_ ?_
    · refine gSteps_weaken (mid := [.java (F0 m pc ls (st.map (tv ad)))]) ?_
      show Steps p.tables e (.java (F0 m pc ls (st.map (tv ad))) :: below) _ _
      have ht2 : T'.setTop { (F0 m pc ls (st.map (tv ad))) with pc := pc + 3, stack := (some (vr ((cR s 51 a).map ad))).toList ++ st.map (tv ad) } = (((U.setVm v1).setVm v2).setCell (ad a) cT.left).setFrames fs := ht'.symm
      rw [ht2]
      refine sy_aload0 Y₀ hx (by rw [hbytesM]; exact gcd0) hl0 ?_
      refine st1 _ ?_
      refine sy_aload0 Z₁ hx (pc := 4) (by rw [hbytesM]; exact gcd4) hl0 ?_
      refine sy_acmpT Z₁ hx (by rw [hbytesM]; exact gcd5) (tgt := 12) (by decide) hq ?_
      refine sy_aload0 Z₁ hx (by rw [hbytesM]; exact gcd12) hl0 ?_
      refine st2 _ ?_
      exact sy_aret Z₂ hx (by rw [hbytesM]; exact gcd16) hretM hr
    · have e3 : (vr (cCause s a) :: st).map (tv ad) = (some (vr ((cR s 51 a).map ad))).toList ++ st.map (tv ad) := by
        rw [List.map_cons, hfin]; rfl
      rw [e3] at a1
      exact a1
end GCAU
theorem all_nil {α : Type} {P : α → Prop} : ∀ z ∈ ([] : List α), P z := fun _ h => absurd h List.not_mem_nil
theorem all_cons {α : Type} {P : α → Prop} {a : α} {l : List α} (h : P a) (k : ∀ z ∈ l, P z) : ∀ z ∈ a :: l, P z := List.forall_mem_cons.mpr ⟨h, k⟩
