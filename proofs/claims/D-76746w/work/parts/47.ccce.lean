/-! checkcast that fails: the text, the note -/
def cHm (b : Bool) : String := if b then "module java.base of loader 'bootstrap'" else "unnamed module of loader 'bootstrap'"
theorem cHome {vm : Vm} {k : Class} (hm : cMods vm) (hl : k.loader = none) (hp : packageOf k.name = "") : ∃ b, vm.home k = cHm b := by
  unfold Vm.home
  rw [hl]
  cases h : vm.moduleOf k with
  | none => exact ⟨false, rfl⟩
  | some m =>
    have e : m.name = "java.base" := by
      unfold Vm.moduleOf at h
      split at h
      · have := List.find?_some h
        exact eq_of_beq this
      · have h1 := List.find?_some h
        have h2 := List.mem_of_find?_eq_some h
        obtain ⟨a1, a2⟩ := Bool.and_eq_true_iff.mp h1
        have h3 := (List.all_eq_true.mp hm) m h2
        rw [hl] at a1
        have a3 : m.loader = none := eq_of_beq a1
        rw [hp] at a2
        have a4 : (castPackages_1.any fun p => m.packages.contains p) = true := by
          unfold castPackages_1
          rw [List.any_cons, a2]; rfl
        rw [a3, a4] at h3
        simpa using h3
    refine ⟨true, ?_⟩
    show "module " ++ m.name ++ " of loader " ++ Vm.loaderName vm none = _
    rw [e]; rfl
def cTxt (a b : String) (q h1 h2 : Bool) : String := "class " ++ dotted a ++ " cannot be cast to class " ++ dotted b ++ " (" ++ (if q then dotted a ++ " and " ++ dotted b ++ " are in " ++ cHm h1 else dotted a ++ " is in " ++ cHm h1 ++ "; " ++ dotted b ++ " is in " ++ cHm h2) ++ ")"
theorem cMsg {vm : Vm} {x y : Class} (hm : cMods vm) (hl : x.loader = none) (hp : packageOf x.name = "") (hh : x.hidden = none) (hl2 : y.loader = none) (hp2 : packageOf y.name = "") (hh2 : y.hidden = none) : ∃ q h1 h2, Op.checkcast.message vm x y = cTxt x.name y.name q h1 h2 := by
  obtain ⟨b1, e1⟩ := cHome hm hl hp
  obtain ⟨b2, e2⟩ := cHome hm hl2 hp2
  refine ⟨vm.sameModule x y, b1, b2, ?_⟩
  unfold Op.checkcast.message Vm.homes Class.shown
  rw [hh, hh2, e1, e2]
  cases vm.sameModule x y <;> rfl
theorem cTxt_md {a b : String} {q h1 h2 : Bool} : (cTxt a b q h1 h2 == notModelled) = false := by
  rw [beq_eq_false_iff_ne]
  intro h
  have h2' := congrArg (fun s : String => s.toList.head?) h
  have h3 : (cTxt a b q h1 h2).toList.head? = some 'c' := by
    unfold cTxt
    simp only [String.toList_append]
    rfl
  have h4 : notModelled.toList.head? = some (Char.ofNat 0) := by decide
  have h5 : some 'c' = some (Char.ofNat 0) := h3.symm.trans (h2'.trans h4)
  exact absurd h5 (by decide)
theorem cHm_len (b : Bool) : (cHm b).toList.length ≤ 38 := by cases b <;> decide +kernel
theorem cDt : (dotted "[I").toList.length ≤ 15 ∧ (dotted RX18).toList.length ≤ 15 := by decide +kernel
theorem cTxt_sz {a b : String} {q h1 h2 : Bool} (ha : (dotted a).toList.length ≤ 15) (hb : (dotted b).toList.length ≤ 15) : (stringBytes (stringToUtf16 (cTxt a b q h1 h2))).size ≤ 760 := by
  have b1 := stringBytes_size_le (stringToUtf16 (cTxt a b q h1 h2))
  have b2 := utf16_size_le (cTxt a b q h1 h2)
  have b3 : (cTxt a b q h1 h2).toList.length ≤ 190 := by
    have l1 := cHm_len h1
    have l2 := cHm_len h2
    have e1 : "class ".toList.length = 6 := by decide
    have e2 : " cannot be cast to class ".toList.length = 25 := by decide
    have e3 : " (".toList.length = 2 := by decide
    have e4 : ")".toList.length = 1 := by decide
    have e5 : " and ".toList.length = 5 := by decide
    have e6 : " are in ".toList.length = 8 := by decide
    have e7 : " is in ".toList.length = 7 := by decide
    have e8 : "; ".toList.length = 2 := by decide
    unfold cTxt
    cases q
    · simp only [Bool.false_eq_true, if_false, String.toList_append, List.length_append]
      omega
    · simp only [if_true, String.toList_append, List.length_append]
      omega
  omega
theorem cPk : packageOf "[I" = "" ∧ packageOf RX18 = "" := by decide +kernel
theorem cFc {vm : Vm} {name : String} {c : ClassId} (h : vm.findClass name = some c) : ∃ k, vm.classes[c]? = some k ∧ k.name = name ∧ k.hidden = none ∧ k.loader = none := by
  obtain ⟨hlt, hp, _⟩ := Array.findIdx?_eq_some_iff_getElem.mp h
  refine ⟨vm.classes[c], by simp [hlt], ?_⟩
  simp only [Bool.and_eq_true, beq_iff_eq, Option.isNone_iff_eq_none] at hp
  exact ⟨hp.1.1.1, hp.1.1.2, hp.2⟩
section CCE
variable {p : Program} {l : Launch} {e : Env} {R : Room} {s : State} {m : MethodId} {args : Array Value} {below : List Frame} {meth : Method} {c : Code} {H : Heap} {locs : List Loc} {cells slots : Nat} {Q : State → Prop}
variable {cc : ByteArray} {pc : Nat} {ls : Array Slot} {rest : List Value} {a : Nat}
theorem va_castNo (hexec : p.tables.exec = Jvm.exec) (hb : c.code = cc) {own C nm : String} {index : Nat} (hown : s.vm.findClass own = some m.cls) (hlink : (Cond.classLink own index nm).before args s = true) (hc : va_Nc C nm s) (hm : cMods s.vm)
    (hr : ∃ cell : Cell, H[a]? = some cell ∧ cell.vm.isStatics = false ∧ s.vm.findClass C = some cell.cls) (hp1 : packageOf C = "") (hp2 : packageOf nm = "") (hdg : decode cc pc = .ok (.checkcast index, 3))
    (k : ∀ q h1 h2 : Bool, vx_Note p l e R s m args below meth c H locs cells slots Q (F0 m pc ls (.ref a :: rest)) "java/lang/ClassCastException" (cTxt C nm q h1 h2)) : W p l e R s m args below meth c H locs cells slots Q (F0 m pc ls (.ref a :: rest)) := by
  obtain ⟨cell, h1, h2, h3⟩ := hr
  obtain ⟨c0, cT, f1, f2, f3⟩ := hc
  cases h3.symm.trans f1
  intro T hT X
  have hpl : e.platform.magicAccessors = ({} : Platform).magicAccessors := by rw [X.admits.platform]
  obtain ⟨c', hc', hcl⟩ := Cond.classLink_spec hown hlink e.platform hpl
  cases f2.symm.trans hc'
  obtain ⟨dk, _, _, _, hd, _, _, _, _, _, _, hopen⟩ := hcl.here
  have hcl₀ := X.warmed.classLinks hcl
  have hW' : s.WarmedH (T.vm.noted m.cls index (.cls cT)) := X.warmed.noted hd hopen (State.rightAt_cls hcl)
  have hmods : cMods (T.vm.noted m.cls index (.cls cT)) := by
    have e1 := hW'.alike.1
    unfold cMods
    rw [e1]
    exact hm
  have g1 : (T.vm.noted m.cls index (.cls cT)).findClass C = some cell.cls := by rw [hW'.alike.findClass]; exact h3
  have g2 : (T.vm.noted m.cls index (.cls cT)).findClass nm = some cT := by rw [hW'.alike.findClass]; exact f2
  obtain ⟨ks, hks, a1, a2, a3⟩ := cFc g1
  obtain ⟨kt, hkt, b1, b2, b3⟩ := cFc g2
  obtain ⟨q, u1, u2, hmsg⟩ := cMsg (x := ks) (y := kt) hmods a3 (by rw [a1]; exact hp1) a2 b3 (by rw [b1]; exact hp2) b2
  rw [a1, b1] at hmsg
  obtain ⟨t, st, hq⟩ := k q u1 u2 (T.setVm (T.vm.noted m.cls index (.cls cT))) hT (X.noted hW')
  refine ⟨t, ?_, hq⟩
  jvm_step X.here [hexec, hb, hdg, checkcast.wp_cold (e := e) (s := T) (f := F0 m pc ls (.ref a :: rest)) X.here.top rfl (resolveClass_links e.toSetting hcl₀) hcl₀.ready,
    checkcast.wp_ready (e := e) (s := T.setVm (T.vm.noted m.cls index (.cls cT))) (f := F0 m pc ls (.ref a :: rest)) X.here.top hcl₀.ready rfl]
  refine ⟨cell, by rw [hT]; exact h1, VmData.noStatics_of h2, ks, hks, kt, hkt, ?_⟩
  have h5 : (T.vm.noted m.cls index (Resolved.cls cT)).assignable cell.cls cT = false := by rw [hW'.alike.assignable]; exact f3
  simp only [h5]
  rw [if_neg (by decide), hmsg]
  exact st
end CCE
section GCV
variable {α : Type} {X : gCx} {Y : cY} {M : cMd α} {F : Option (α × cS)} {s : cS} {pc d index a ci : Nat} {lv : List (Nat × Value)} {st st' : List Value} {own nm : String} {cc : ByteArray} {r : vw_C}
/-- a Seat, where an int[] is asked -/
theorem gc_castXS (hC : cOk X Y own cc d) (hk : cK s a = 16) (w : Cond.classLink own index "[I" ∈ lw_all) (hdg : decode cc pc = .ok (.checkcast index, 3)) (hs : (st.map fun v => v.category).sum ≤ 7) (kk : GN X Y M F s pc lv cEC 760) : GC X Y M F s pc lv (.ref a :: st) := by
  refine gc_ofGN (st' := .ref a :: st) (fun ad H locs cells slots Q ls hH hR g k1 => ?_) (by show 1 + (st.map fun v => v.category).sum ≤ 8; omega) kk
  obtain ⟨p, l, e, R, z, m, args, below, meth, c⟩ := X
  have hv := cRecv (r := (RX18, TX18, 1)) hC hH (ci := 15) hk rfl
  have hm := hC.2.1.2.2.2.2.2.2.2.2
  obtain ⟨⟨hx, hb, hown, hts, hlk⟩, hB, -⟩ := hC
  exact va_castNo (a := ad a) hx hb hown (hts _ w) (hB.2.2.2.2.1 (RX18, "[I") (by decide +kernel)) hm hv cPk.2 cPk.1 hdg fun q h1 h2 => k1 _ cTxt_md (cTxt_sz cDt.2 cDt.1)
/-- an int[], where a Seat is asked -/
theorem gc_castXI (hC : cOk X Y own cc d) (hk : cK s a = 20) (w : Cond.classLink own index RX18 ∈ lw_all) (hdg : decode cc pc = .ok (.checkcast index, 3)) (hs : (st.map fun v => v.category).sum ≤ 7) (kk : GN X Y M F s pc lv cEC 760) : GC X Y M F s pc lv (.ref a :: st) := by
  refine gc_ofGN (st' := .ref a :: st) (fun ad H locs cells slots Q ls hH hR g k1 => ?_) (by show 1 + (st.map fun v => v.category).sum ≤ 8; omega) kk
  obtain ⟨p, l, e, R, z, m, args, below, meth, c⟩ := X
  have hv := cRecvA hC hH hk
  have hm := hC.2.1.2.2.2.2.2.2.2.2
  obtain ⟨⟨hx, hb, hown, hts, hlk⟩, hB, -⟩ := hC
  exact va_castNo (a := ad a) hx hb hown (hts _ w) (hB.2.2.2.2.1 ("[I", RX18) (by decide +kernel)) hm hv cPk.1 cPk.2 hdg fun q h1 h2 => k1 _ cTxt_md (cTxt_sz cDt.1 cDt.2)
end GCV
