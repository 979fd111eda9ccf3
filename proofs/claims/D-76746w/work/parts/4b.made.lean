/-! lambdas: calls on them. The made class's method is walked in a frame of its own -/
theorem gSteps_weaken {tb : Tables} {e : Env} {mid below : List Frame} {a b : State} (h : Steps tb e (mid ++ below) a b) : Steps tb e below a b := by
  obtain ⟨n, hn, w⟩ := h
  exact ⟨n, hn, fun k hk => (w k hk).weaken⟩
section GXI
variable {p : Program} {l : Launch} {e : Env} {R : Room} {s : State} {m : MethodId} {args : Array Value} {below : List Frame} {meth : Method} {c : Code} {T : State} {locs : List Loc} {cells slots : Nat}
/-- a method that has no name (a made class's): entered, walked, left -/
theorem gx_into (X : Stand p l e R s m args below meth c T locs cells slots) {g : JFrame} (hg : g.method = m) (hsize : g.locals.size = c.maxLocals) {ig : Instr} {len : Nat} (hdg : decode c.code g.pc = .ok (ig, len))
    {mk : MethodId} {methk : Method} {ck : Code} (a : Array Value) {R' : Room} (hmk : T.vm.method? mk = some methk) (hck : methk.code = some ck) (hlk : methk.locks = false) (hpk : T.plainMethod mk)
    (hframes : R'.frames + 1 ≤ R.frames) (hlocals : 2 * g.monitorRoom + (g.stack.map fun v => v.category).sum + (ck.maxLocals + 11) + R'.locals ≤ R.locals) (hcells : cells + R'.cells ≤ R.cells) (hslots : slots + R'.slots ≤ R.slots)
    {Qc : Array Value → State → Outcome → State → Prop} {XC : Addr → State → State → Prop} {mc ms : Nat} {free : Addr → Prop}
    (body : W p l e R' (T.calling g mk a) mk a (.java g :: below) methk ck T.heap [] 0 0 (gx_MQ (.java g :: below) Qc XC a (T.calling g mk a) mc ms free) (entryFrame mk a ck.maxLocals)) :
    (∃ (v : Option Value) (t T' : State) (L : List Loc), Stand p l e R s m args below meth c T' (locs ++ L) (cells + mc) (slots + ms) ∧ (∀ q ∈ L, free q.base) ∧ T'.heap = t.heap ∧ T'.vm = t.vm ∧ Qc a (T.calling g mk a) (.returned v) t ∧ Steps p.tables e below (doInvoke e (T.setTop g) [] mk a).1 (T'.setTop { g with pc := g.pc + len, stack := v.toList ++ g.stack })) ∨
    (∃ (q : Addr) (t T' : State) (L : List Loc), Stand p l e R s m args below meth c T' (locs ++ L) (cells + mc) (slots + ms) ∧ (∀ z ∈ L, free z.base) ∧ T'.heap = t.heap ∧ T'.vm = t.vm ∧ XC q (T.calling g mk a) t ∧ Steps p.tables e below (doInvoke e (T.setTop g) [] mk a).1 ((T'.setTop g).pushFrame (.throwing q))) := by
  obtain ⟨Y₀, hin⟩ := X.into hg hsize hdg a (R' := R') hmk hck hlk hpk hframes hlocals hcells hslots
  obtain ⟨s₂, hst, o, hrun, hend, hq⟩ := body _ (by rfl) Y₀
  have hsteps : Steps p.tables e below (doInvoke e (T.setTop g) [] mk a).1 s₂ := by
    rw [hin []]
    exact gSteps_weaken (mid := [.java g]) hst
  rcases hq with ⟨hqc, L, hfe, hL⟩ | ⟨q, rfl, L, hx, hW₂, hsm, hL⟩
  · obtain ⟨⟨v, rfl⟩, hW₂, hsm⟩ := hfe
    obtain ⟨T', X', hW', hB, ht⟩ := X.outOf hg hdg hend hW₂ hsm
    refine Or.inl ⟨v, s₂, T', L, X', hL, ?_, ?_, hqc, ?_⟩
    · rw [ht]; rfl
    · rw [ht]; rfl
    · rw [← ht]; exact hsteps
  · subst hg
    obtain ⟨g₀, hg0⟩ := Option.isSome_iff_exists.mp X.here.top
    obtain ⟨r, hr⟩ := State.topJava?_eq_some.mp hg0
    have hr' : (({ T with heap := s₂.heap, slotsUsed := s₂.slotsUsed } : State).setVm s₂.vm).frames = .java g₀ :: r := hr
    obtain ⟨e2, q2, q3, q4, q5, q6⟩ := id hsm
    have e3 : s₂ = ({ (T.calling g mk a).setFrames s₂.frames with heap := s₂.heap, slotsUsed := s₂.slotsUsed } : State).setVm s₂.vm := by
      have : s₂ = ({ s₂ with vm := (T.calling g mk a).vm } : State).setVm s₂.vm := rfl
      rw [e2] at this
      exact this
    have hf₂ : s₂.frames = .throwing q :: .java g :: T.frames.tail := by rw [X.tail]; exact hend
    have hW' : T.WarmedH s₂.vm := hW₂
    have hs₂ : s₂ = ((({ T with heap := s₂.heap, slotsUsed := s₂.slotsUsed } : State).setVm s₂.vm).setTop g).pushFrame (.throwing q) := by
      refine e3.trans ?_
      rw [hf₂, State.calling_eq X.here.top, State.setFrames_setFrames, State.pushFrame, State.frames_setTop _ hr', State.setTop_of_frames _ hr', State.setFrames_setFrames, hr]
      rfl
    have hsame : T.sameButNew ({ T with heap := s₂.heap, slotsUsed := s₂.slotsUsed } : State) L mc ms := by
      refine ⟨?_, q2, q3, q4, q5, q6⟩
      obtain ⟨t, ht, -⟩ := State.frames_cons hr
      show ({ T with heap := s₂.heap, slotsUsed := s₂.slotsUsed } : State) = { T.setFrames T.frames with heap := s₂.heap, slotsUsed := s₂.slotsUsed }
      rw [State.setFrames_self ht]
    refine Or.inr ⟨q, s₂, (({ T with heap := s₂.heap, slotsUsed := s₂.slotsUsed } : State).setVm s₂.vm), L,
      ⟨X.admits, X.cas, X.clock, X.frames, X.room, X.hears, X.method, X.code, (X.here.setHeapUsed s₂.heap s₂.slotsUsed).setVm hW'.alike, X.tail, State.WarmedH.trans X.warmed hW', X.limits, X.bytes, X.same.trans (hsame.setVm s.vm)⟩, hL, rfl, rfl, hx, ?_⟩
    show Steps p.tables e below _ (((({ T with heap := s₂.heap, slotsUsed := s₂.slotsUsed } : State).setVm s₂.vm).setTop g).pushFrame (.throwing q))
    rw [← hs₂]
    exact hsteps
end GXI
/-- the words hold in every warmer state -/
def lwW (s : State) : Prop := ∀ w ∈ lw_all, ∀ (a : Array Value) (U : State), s.WarmedH U.vm → w.before a U = true
theorem lwW.of {s : State} {args : Array Value} (h : ∀ w ∈ lw_all, w.before args s = true) : lwW s := fun w hw a U hW => pay_in h (lw_good (ws := lw_all) (fun w hw => hw)) w hw a U hW
theorem lwW.moved {s U : State} (hW : s.WarmedH U.vm) (h : lwW s) : lwW U := fun w hw a V hV => h w hw a V (State.WarmedH.trans (t := U) hW hV)
/-! the tables of a made class -/
def mdAt (vm : Vm) (c : ClassId) (σ : Lambda.Shape) (nm : String) : Prop := ∃ (d : ClassId) (dk : Class), Lambda.isMade { classPath := fun _ => none } vm d σ c = true ∧ vm.classes[d]? = some dk ∧ dk.name = nm
theorem mdAt.moved {s U : State} {c : ClassId} {σ : Lambda.Shape} {nm : String} (hW : s.WarmedH U.vm) (h : mdAt s.vm c σ nm) : mdAt U.vm c σ nm := by
  obtain ⟨d, dk, h1, h2, h3⟩ := h
  obtain ⟨dk', h2', e2⟩ := hW.alike.2.2 _ _ h2
  exact ⟨d, dk', Lambda.isMade_warmer hW h1, h2', by rw [e2]; exact h3⟩
/-- its method 1: bytes, locals, result -/
def mdC (σ : Lambda.Shape) (nm : String) (B : ByteArray) (nL : Nat) (ret : Option FieldType) : Prop := ((σ.file nm).bind fun D => ((layoutMethods D).bind (·[1]?)).bind fun f => f.code.map fun x => (x.code.data, x.maxLocals, f.accessFlags, f.sig.returnType)) = some (B.data, nL, 0x0001, ret)
/-- its target's place in the pool -/
def mdT (σ : Lambda.Shape) (nm : String) (mi ci mnt cu : Nat) : Prop := ((σ.file nm).any fun D => decide (D.constantPool[mi]? = some (.methodref ci mnt)) && (decide (D.constantPool.className? ci = some σ.implClass) && (decide (D.constantPool.nameAndType? mnt = some (σ.implName, σ.implDesc.toString)) && (decide (D.constantPool[ci]? = some (.class_ cu)) && (decide (D.constantPool.string? cu = some σ.implClass) && !decide (ci = D.thisClass)))))) = true
/-- its field -/
def mdF (σ : Lambda.Shape) (nm ds : String) : Prop := ((σ.file nm).any fun D => (layoutFields D 0).any fun laid => decide (D.constantPool[15]? = some (.fieldref 2 14)) && (decide (D.constantPool.nameAndType? 14 = some ("arg$1", ds)) && (decide (laid.1.findIdx? (·.name == "arg$1") = some 0) && decide ((laid.1[0]?).map (fun f => (f.isStatic, f.slot)) = some (false, 0))))) = true
/-- its cast -/
def mdK (σ : Lambda.Shape) (nm nc : String) : Prop := ((σ.file nm).any fun D => decide (D.constantPool[19]? = some (.class_ 18)) && (decide (D.constantPool.string? 18 = some nc) && !decide (19 = D.thisClass))) = true
section MDF
variable {vm : Vm} {c : ClassId} {σ : Lambda.Shape} {nm : String}
theorem mdAt.meth {B : ByteArray} {nL : Nat} {ret : Option FieldType} (h : mdAt vm c σ nm) (hc : mdC σ nm B nL ret) : ∃ (k : Class) (file : ClassFile) (methk : Method) (ck : Code) (iface : ClassId) (found : MethodId),
    vm.classes[c]? = some k ∧ k.name = nm ++ "$$Lambda" ∧ vm.method? ⟨c, 1⟩ = some methk ∧ methk.code = some ck ∧ ck.code = B ∧ ck.maxLocals = nL ∧ ck.exceptionTable = #[] ∧ methk.locks = false ∧ methk.accessFlags = 0x0001 ∧ methk.sig.returnType = ret ∧
    vm.findClass σ.iface = some iface ∧ ((methodIn iface σ.name σ.sam.toString true none).ask { classPath := fun _ => none } vm).1 = .ok found ∧ selectMethod {} vm c found = .method ⟨c, 1⟩ := by
  obtain ⟨d, dk, hm, hd, rfl⟩ := h
  obtain ⟨dk', k, ok, tk, file, cf, object, iface, toy, lay, methods, target, found, hd', hk, hfile, hcf, -, hi, -, -, hms, -, -, -, hfound, hrec, -, -, -, -, -, hmeth, -, -, -, hsel⟩ := Lambda.isMade_spec hm
  cases Option.some.inj (hd.symm.trans hd')
  unfold mdC at hc
  rw [hcf, Option.bind_some, hms, Option.bind_some] at hc
  obtain ⟨fwd, hfwd, hc⟩ := Option.bind_eq_some_iff.mp hc
  obtain ⟨x, hx, hc⟩ := Option.map_eq_some_iff.mp hc
  simp only [Prod.mk.injEq] at hc
  obtain ⟨c1, c2, c3, c4⟩ := hc
  obtain ⟨b, hb, hsame⟩ := hmeth 1 fwd hfwd
  obtain ⟨-, -, s3, s4, x', y, sx, sy, -, s5, s6, s7⟩ := Lambda.sameMethod_spec hsame
  cases Option.some.inj (hx.symm.trans sx)
  refine ⟨k, file, b, y, iface, found, hk, hrec.1, by simp [Vm.method?, hk, hb], sy, ?_, by rw [s5]; exact c2, s7, ?_, by rw [s4]; exact c3, by rw [s3]; exact c4, hi, hfound, hsel⟩
  · rw [s6]
    exact ByteArray.ext c1
  · simp [Method.locks, Method.isSynchronized, s4, c3, hasFlag, Acc.synchronized]
theorem mdAt.tgt {mi ci mnt cu : Nat} (h : mdAt vm c σ nm) (hT : mdT σ nm mi ci mnt cu) : ∃ (k tk : Class) (file : ClassFile) (t : ClassId) (tgt : MethodId),
    vm.classes[c]? = some k ∧ k.cf = some file ∧ vm.findClass σ.implClass = some t ∧ vm.classes[t]? = some tk ∧ tk.isInterface = σ.implItf ∧ ((methodIn t σ.implName σ.implDesc.toString tk.isInterface none).ask { classPath := fun _ => none } vm).1 = .ok tgt ∧
    vm.methodReady c mi tgt ∧ vm.classReady c ci t ∧ file.constantPool[mi]? = some (.methodref ci mnt) ∧ file.constantPool.nameAndType? mnt = some (σ.implName, σ.implDesc.toString) := by
  obtain ⟨d, dk, hm, hd, rfl⟩ := h
  obtain ⟨dk', k, ok, tk, file, cf, object, iface, t, lay, methods, target, found, hd', hk, hfile, hcf, -, -, -, -, -, ht, htk, hg, -, -, -, -, -, hitf, hpool, -, -, -, hres, -⟩ := Lambda.isMade_spec hm
  cases Option.some.inj (hd.symm.trans hd')
  unfold mdT at hT
  rw [hcf] at hT
  simp only [Option.any_some, Bool.and_eq_true, decide_eq_true_eq, Bool.not_eq_true', decide_eq_false_iff_not] at hT
  obtain ⟨p1, p2, p3, p4, p5, p6⟩ := hT
  exact ⟨k, tk, file, t, target, hk, hfile, ht, htk, hitf, hg, ⟨k, hk, hres mi _ (Lambda.resolvedOf_method p1 p2 ht htk p3 hg)⟩, ⟨k, hk, hres ci _ (Lambda.resolvedOf_class p4 p6 p5 ht)⟩, by rw [hpool.2.1]; exact p1, by rw [hpool.2.1]; exact p3⟩
theorem mdAt.cast {nc : String} {x : ClassId} (h : mdAt vm c σ nm) (hK : mdK σ nm nc) (hx : vm.findClass nc = some x) : vm.classReady c 19 x := by
  obtain ⟨d, dk, hm, hd, rfl⟩ := h
  obtain ⟨dk', k, ok, tk, file, cf, object, iface, t, lay, methods, target, found, hd', hk, hfile, hcf, -, -, -, -, -, ht, htk, hg, -, -, -, -, -, hitf, hpool, -, -, -, hres, -⟩ := Lambda.isMade_spec hm
  cases Option.some.inj (hd.symm.trans hd')
  unfold mdK at hK
  rw [hcf] at hK
  simp only [Option.any_some, Bool.and_eq_true, decide_eq_true_eq, Bool.not_eq_true', decide_eq_false_iff_not] at hK
  obtain ⟨p1, p2, p3⟩ := hK
  exact ⟨k, hk, hres 19 _ (Lambda.resolvedOf_class p1 p3 p2 hx)⟩
end MDF
theorem mdAt.fld {z : State} {A : Array Value} {c : ClassId} {σ : Lambda.Shape} {nm ds : String} (h : mdAt z.vm c σ nm) (hF : mdF σ nm ds) (hO : (Cond.instantiable "java/lang/Object" 0).before A z = true) : ∃ f : Field, z.vm.fieldReady c 15 c f ∧ f.isStatic = false ∧ f.slot = 0 := by
  obtain ⟨d, dk, hm, hd, rfl⟩ := h
  obtain ⟨dk', k, ok, tk, file, cf, object, iface, t, lay, methods, target, found, hd', hk, hfile, hcf, hobj, -, hok, hlay, -, ht, htk, hg, -, -, -, -, -, hitf, hpool, -, hfields, -, hres, -⟩ := Lambda.isMade_spec hm
  cases Option.some.inj (hd.symm.trans hd')
  obtain ⟨cO, kO, hfO, hkO, -, -, -, hsz⟩ := Cond.instantiable_spec hO
  cases Option.some.inj (hfO.symm.trans hobj)
  cases Option.some.inj (hkO.symm.trans hok)
  rw [hsz] at hlay
  unfold mdF at hF
  rw [hcf, Option.any_some, hlay] at hF
  simp only [Option.any_some, Bool.and_eq_true, decide_eq_true_eq] at hF
  obtain ⟨p1, p2, p3, p4⟩ := hF
  obtain ⟨f0, hf0, hp⟩ := Option.map_eq_some_iff.mp p4
  simp only [Prod.mk.injEq] at hp
  exact ⟨f0, ⟨k, 0, k, hk, hres 15 _ (Lambda.resolvedOf_field p1 p2 p3), hk, hfields 0 _ hf0⟩, hp.1, hp.2⟩
