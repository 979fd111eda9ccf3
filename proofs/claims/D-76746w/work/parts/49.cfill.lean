/-! Throwable.fillInStackTrace() in a launch without stack traces: nothing changes -/
def cFillL : List Cond := Bundle.throwableAtoms ++ [.fieldLink Bundle.tN 198 Bundle.tN "backtrace" "Ljava/lang/Object;", .lays Bundle.tN Bundle.tN "backtrace" "Ljava/lang/Object;"]
theorem cFill_w : cWd (cFillL.filter vx_no) = true := by decide +kernel
section GCFI
variable {α : Type} {X : gCx} {Y : cY} {M : cMd α} {F : Option (α × cS)} {s : cS} {pc d a : Nat} {lv : List (Nat × Value)} {st : List Value} {cc : ByteArray}
set_option maxHeartbeats 4000000 in
theorem gc_fill (hC : cOk X Y "java/lang/Throwable" cc d) (hnL : gLoc X = M.1) {ci jS jB : Nat} {C : String} {T : u_T} {N : Nat} (hk : cK s a = ci + 1) (hr : ccl[ci]? = some (C, T, N)) (hci : ci < 16) (hjS : jS < N) (hjB : jB < N) (eS : T jS = ("java/lang/Throwable", "stackTrace", "[Ljava/lang/StackTraceElement;", false)) (eB : T jB = ("java/lang/Throwable", "backtrace", "Ljava/lang/Object;", false)) (hin : ∀ w ∈ u_ws C T N, w ∈ lw_all) (fS : cFl ci jS = 52) (fB : cFl ci jB = 55) (hU : cR s 52 a = cR s 52 299) (hB0 : cR s 55 a = none)
    (ws1 : Cond.selects C Bundle.tFill Bundle.tFill ∈ lw_all) (ws0 : Cond.selects C Bundle.tFill0 Bundle.tFill0 ∈ lw_all) (hdg : decode cc pc = .ok (.invokevirtual 27, 3)) (hs : (st.map fun v => v.category).sum ≤ 8) (kk : GC X Y M F s (pc + 3) lv (.ref a :: st)) : GC X Y M F s pc lv (.ref a :: st) := by
  refine gc_rdB (st' := .ref a :: st) (fun ad H locs cells slots Q ls hc1 hc2 hH hR hS g k1 => ?_) (fun ad H hH hR => hR) kk
  obtain ⟨cell, q1, q2, q3, q5, q4⟩ := hH.obj hk hr
  have hov := (hH.ov (by omega) hH.1.1.2.2.1).1
  obtain ⟨p, l, e, R, z, m, args, below, meth, c⟩ := X
  obtain ⟨⟨hx, hb, hown, hts, hlk⟩, hB, hO, hfr, hlo, hl, hA1, hA2⟩ := hC
  have hfr : d + 16 ≤ R.frames := hfr
  have hlo : 64 * d + 10400 ≤ R.locals := hlo
  obtain ⟨hS1, hfc, kC, hkC, hkind⟩ := hB.1.1 ci _ hr
  obtain ⟨z1, z2, -, -, -, z3, z4⟩ := hB.2.2.2.2.2.2.2.1
  have hZ := va_Z.kept (va_Z.kept z1 (fun a ha _ => hO.2.1 a ha)) (H1 := H) (fun a ha hna => hS.2.1 a ha hna)
  have hk0 := fun (C n ds : String) (v : Value) (hz : va_Z C n ds v Y.2.2.2.1 z Y.2.2.2.2) => va_Z.kept hz (fun a ha _ => hO.2.1 a ha)
  have hq0 : ∀ (C n ds : String) (i : Nat), va_Z C n ds (cOV Y i) Y.2.2.2.1 z z.heap → va_Zq C n ds Y.2.2.2.1 z z.heap := fun C n ds i hz => by
    unfold cOV at hz
    split at hz
    · exact Or.inl hz
    · exact Or.inr ⟨_, hz⟩
  have hat := vx_own (cWd_at cFill_w hts hB.2.1) (vx_isRefq (hq0 _ _ _ 257 (hk0 _ _ _ _ z1))) (vx_isRefq (hq0 _ _ _ 258 (hk0 _ _ _ _ z2))) (vx_L.word (z3.kept (fun a ha _ => hO.2.1 a ha))) (vx_L.word (z4.kept (fun a ha _ => hO.2.1 a ha)))
  intro T' hT XS
  have htr : e.platform.stackTraces = false := (show e.platform.stackTraces = l.stackTraces by rw [XS.admits.platform]).trans hl
  have howns : e.platform.frameOwnsMonitors = true := by rw [XS.admits.platform]
  have hfin : e.platform.finalization = false := by rw [XS.admits.platform]
  have hpl : e.platform.magicAccessors = ({} : Platform).magicAccessors := by rw [XS.admits.platform]
  obtain ⟨TC, Z0, L, -, Yt⟩ := ThrowableC.of_atoms (args := args) howns hfin hpl (fun x hx => hat x (List.mem_append_left _ hx))
  obtain ⟨ci198, i198, fBk, hk198, hg198, ha198, hsB, -, hnB, htB, hffB⟩ := Cond.ownField (t := .object "java/lang/Object") Yt.found L.cls (by decide +kernel) (hat (.fieldLink Bundle.tN 198 Bundle.tN "backtrace" "Ljava/lang/Object;") (by simp [cFillL])) (hat (.lays Bundle.tN Bundle.tN "backtrace" "Ljava/lang/Object;") (by simp [cFillL])) e.platform hpl
  obtain ⟨cfS, kfS, fiS, fldS, hiS, hslS⟩ := hS1 jS hjS
  obtain ⟨cfB, kfB, fiB, fldB, hiB, hslB⟩ := hS1 jB hjB
  have hlay := hts _ (hin _ (u_in_lay hjS))
  unfold u_lay at hlay
  rw [if_neg (by rw [eS]; decide)] at hlay
  have hst := u_store hfc hkC hkind hlay hiS (ty := .array (.object "java/lang/StackTraceElement")) (v := tv ad (vr (cR s 52 299))) (by rw [eS]; decide +kernel) (by cases cR s 52 299 <;> rfl) (by cases cR s 52 299 <;> rfl)
  have v52 : cell.slots[Y.1.2 ci jS]? = some (tv ad (vr (cR s 52 299))) := by
    have h1 := q4 jS hjS
    rw [fS] at h1
    have h2 : cVal s 52 a = vr (cR s 52 a) := rfl
    rw [h2, hU] at h1
    exact h1
  have v55 : cell.slots[Y.1.2 ci jB]? = some .null := by
    have h1 := q4 jB hjB
    rw [fB] at h1
    have h2 : cVal s 55 a = vr (cR s 55 a) := rfl
    rw [h2, hB0] at h1
    exact h1
  have hiS : z.fieldFound? (T jS).1 (T jS).2.1 (T jS).2.2.1 = some (cfS, kfS, fiS, fldS) := hiS
  have hiB : z.fieldFound? (T jB).1 (T jB).2.1 (T jB).2.2.1 = some (cfB, kfB, fiB, fldB) := hiB
  rw [eS] at hiS
  rw [eB] at hiB
  have e1 := hiS.symm.trans Yt.stack
  have e2 := hiB.symm.trans hffB
  cases e1
  cases e2
  have hslS : TC.fStack.slot = Y.1.2 ci jS := hslS
  have hslB : fBk.slot = Y.1.2 ci jB := hslB
  rw [← hslS] at v52
  rw [← hslB] at v55
  rw [hov] at v52
  have hisr : (cOV Y 257).isRef = true := by unfold cOV; split <;> rfl
  obtain ⟨cf, kf, fi, f, aS, cellS, h1, h2, h3, h4, h5, h6, h7, h8⟩ := hZ
  have e3 := h1.symm.trans Yt.unassigned
  cases e3
  have e4 : aS = TC.aS := Option.some.inj (h4.symm.trans L.statics)
  subst e4
  have hAa : Y.2.2.2.1 (ad a) := cA_of hH (by rw [hk]; omega) (Or.inl (by rw [hk]; omega)) (by rw [hk]; omega)
  have hneS : TC.aS ≠ ad a := fun q => h8 (by rw [q]; exact hAa)
  have hfound : z.vm.findClass C = some cell.cls := by rw [q2]; exact hfc
  have hpsel : ∀ (y : MethodName) (mk : MethodId), Cond.selects C y y ∈ lw_all → z.methodNamed? y = some mk → (y.cls ≠ "java/lang/invoke/MethodHandle" ∧ y.cls ≠ "java/lang/invoke/VarHandle") → selectMethod e.platform z.vm cell.cls mk = .method mk := by
    intro y mk hw hn hp
    obtain ⟨c2, r2, m2, g1, g2, g3, g4, -⟩ := Cond.selects_spec (hts _ hw)
    cases Option.some.inj (g1.symm.trans hfound)
    cases Option.some.inj (g2.symm.trans (State.methodFound?_of_named hn hp))
    cases Option.some.inj (g3.symm.trans hn)
    rw [Launch.admits_selectMethod XS.admits]; exact g4
  obtain ⟨r0, r, hn, hrm, hstR, hsigR⟩ := va_Decl.abs (hB.2.1.2.2.1 Bundle.tFill q531)
  cases Option.some.inj (hn.symm.trans Yt.fill)
  obtain ⟨mk, methM, hnamed, hmethM, -, habM⟩ := Cond.instanceMethod_spec (hts _ q513)
  cases Option.some.inj (hnamed.symm.trans Yt.fill)
  obtain ⟨c2, r2, m2, g1, g2, g3, g4, kP, hkP, hkPi⟩ := Cond.selects_spec (hts _ ws1)
  cases Option.some.inj (g3.symm.trans Yt.fill)
  obtain ⟨vm₁, X₁, hstep₁⟩ := XS.invokevirtualUp hx hown (hts _ q512) (hts _ q514) (owner := "java/lang/Throwable") ⟨by decide +kernel, by decide +kernel⟩ Yt.fill hrm hstR (a := ad a) (cell := cell) (by rw [hT]; exact q1) (fun z h => by rw [q3] at h; cases h) (hpsel _ _ ws1 Yt.fill (by decide)) hmethM habM hkP hkPi (g := F0 m pc ls (.ref (ad a) :: st.map (tv ad))) rfl (argsL := []) (rest := st.map (tv ad)) (by
    have h0 : parseMethodDescriptor Bundle.tFill.desc = some ⟨[], some (.object "java/lang/Throwable")⟩ := by decide +kernel
    rw [Option.some.inj (hsigR.symm.trans h0)]; rfl) rfl (by rw [hb]; exact hdg)
  have hV : (T'.setVm vm₁).heap[ad a]? = some cell := by show T'.heap[ad a]? = _; rw [hT]; exact q1
  have hVS : (T'.setVm vm₁).heap[TC.aS]? = some cellS := by show T'.heap[TC.aS]? = _; rw [hT]; exact h5
  have hAt : At (T'.setVm vm₁) (F0 m pc ls (st.map (tv ad))).method c below := X₁.here
  have hsz : (F0 m pc ls (st.map (tv ad))).locals.size = c.maxLocals := g.1.1.trans hnL.symm
  have hroomL : 2 * (F0 m pc ls (st.map (tv ad))).monitorRoom + ((F0 m pc ls (st.map (tv ad))).stack.map fun v => v.category).sum + 42 ≤ R.locals := by
    show 2 * 0 + ((st.map (tv ad)).map fun v => v.category).sum + 42 ≤ R.locals
    rw [cat_map]; omega
  have hfr' : (T'.setVm vm₁).frames.length + 2 < (e.platform.stackLimits (T'.setVm vm₁).me).1 := X₁.framesAbove (by omega)
  have hwd' := X₁.stackAbove hsz (K := 42) hroomL
  obtain ⟨g₀, hg0⟩ := Option.isSome_iff_exists.mp hAt.top
  obtain ⟨tl0, htl0⟩ := State.topJava?_eq_some.mp hg0
  have hlen0 : (T'.setVm vm₁).frames.length = (Frame.java (F0 m pc ls (st.map (tv ad))) :: (T'.setVm vm₁).frames.tail).length := by rw [htl0]; rfl
  generalize hFr : (Frame.java (F0 m pc ls (st.map (tv ad))) :: (T'.setVm vm₁).frames.tail) = Fr at hlen0 hwd'
  have hfg : ((T'.setVm vm₁).setTop (F0 m pc ls (st.map (tv ad)))).frames = [] ++ Fr := by rw [State.frames_setTop _ htl0, ← hFr, htl0]; rfl
  have hw14 : (stackUse [Frame.java (fillJ TC.fill (ad a) 16 [])]).2 = 14 := by
    rw [stackUse_java, stackUse_nil]
    simp [operandWords]
  have hroom : e.platform.stackFull ((((T'.setVm vm₁).setTop (F0 m pc ls (st.map (tv ad)))).threads[((T'.setVm vm₁).setTop (F0 m pc ls (st.map (tv ad)))).cur]?).getD { frames := [] }) ((T'.setVm vm₁).setTop (F0 m pc ls (st.map (tv ad)))).frames (1 + 2) = false :=
    roomAbove (pushed := []) (base := Fr) (free := 42) (lim := e.platform.stackLimits (T'.setVm vm₁).me) hfg (State.stackLimits_setTop _ hAt.top _) (by rw [← hlen0]; simp only [List.length_nil]; omega) hwd' (by simp only [stackUse_nil]; omega)
  have hfree : cell.monitor.owner = none := by rw [q5]
  have hcount : cell.monitor.count = 0 := by rw [q5]
  have htS : Takes z cell TC.fStack (cOV Y 257) := ⟨hasslot_of v52, by rw [q2, q3]; rw [hov] at hst; exact hst.2.2⟩
  obtain ⟨vm', hW', stp⟩ := Steps.fillColdAnyV p (V := T'.setVm vm₁) (g := F0 m pc ls (st.map (tv ad))) (c := c) (self := ad a) hAt hx TC L X₁.warmed
    (Nn := fun u => u) heapOnly_id (fun _ _ => rfl) (fun _ => rfl) (fun u x y => setCell_twice _ _ _ _)
    (cell := cell) (cellS := cellS) (cN := cell.withEntry (T'.setVm vm₁).cur) (u0 := ⟨cOV Y 257, hisr⟩) (ig := .invokevirtual 27) (len := 3) []
    hV (fun k h => by rw [q3] at h; cases h) (by rw [q3]; exact fun h => by cases h) (Or.inl hfree) v52 (hpsel _ _ ws0 Yt.fill0 ⟨by decide +kernel, by decide +kernel⟩) hVS hneS (fun h => by rw [h] at h6; cases h6) h7 (fun u hu => hu) (fun u hu => hu) rfl rfl rfl rfl htS (by rw [hb]; exact hdg)
    (fun hne vm1 hW1 hAt1 t' hrest => by
      obtain ⟨g₁, hg1⟩ := Option.isSome_iff_exists.mp hAt1.top
      obtain ⟨tl1, htl1⟩ := State.topJava?_eq_some.mp hg1
      have htail : (fillInside ((T'.setVm vm₁).setVm vm1) (F0 m pc ls (st.map (tv ad))) TC.fill (ad a) cell).frames.tail = Fr := by rw [← hFr]; exact fillInside_tail ((T'.setVm vm₁).setVm vm1) (F0 m pc ls (st.map (tv ad))) TC.fill (ad a) cell hAt.top
      have etl : tl1 = Fr := by rw [htl1] at htail; exact htail
      have htopE : (((T'.setVm vm₁).setVm vm1).setCell (ad a) (cell.withEntry ((T'.setVm vm₁).setVm vm1).cur)).topJava?.isSome := hAt.top
      have hlimF : e.platform.stackLimits (fillInside ((T'.setVm vm₁).setVm vm1) (F0 m pc ls (st.map (tv ad))) TC.fill (ad a) cell).me = e.platform.stackLimits (T'.setVm vm₁).me := by
        rw [State.stackLimits_pushFrame, State.stackLimits_setTop _ htopE]; rfl
      exact L.nativeOff p htr hAt1 hW1 (self := ad a)
        (roomAbove (pushed := [.java (fillJ TC.fill (ad a) 16 [])]) (base := Fr) (free := 42) (lim := e.platform.stackLimits (T'.setVm vm₁).me) (by rw [State.frames_setTop _ htl1, etl]; rfl) (by rw [State.stackLimits_setTop _ hAt1.top]; exact hlimF)
          (by rw [← hlen0]; simp only [List.length_cons, List.length_nil]; omega) hwd' (by rw [hw14]; decide)) hrest)
    hroom ⟨{ ci198 := ci198, i198 := i198, fBack := fBk }, ⟨hk198, hg198, ha198, hsB⟩, v55, fun _ _ => rfl⟩
  have hend : ((cell.withEntry (T'.setVm vm₁).cur).setSlot TC.fStack.slot (cOV Y 257)).left = cell := by
    simp only [Cell.left_setSlot, Cell.left_withEntry (T'.setVm vm₁).cur hfree hcount]
    exact Cell.setSlot_same v52
  have hasit : ((T'.setVm vm₁).setVm vm').setCell (ad a) cell = (T'.setVm vm₁).setVm vm' := State.setCell_asItLies hV
  obtain ⟨t, a1, b1⟩ := k1 ((T'.setVm vm₁).setVm vm') hT (X₁.noted hW')
  refine ⟨t, hstep₁ _ fun acts => ?_, b1⟩
  rw [doInvoke_state]
  refine stp t ?_
  have hasit2 : ((fun u => u) ((T'.setVm vm₁).setVm vm')).setCell (ad a) ((cell.withEntry (T'.setVm vm₁).cur).setSlot TC.fStack.slot (cOV Y 257)).left = (T'.setVm vm₁).setVm vm' := by rw [hend]; exact hasit
  rw [hasit2]
  exact a1
end GCFI
