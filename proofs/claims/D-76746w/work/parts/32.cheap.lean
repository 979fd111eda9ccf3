/-! the component's background, and its heap's rows -/
abbrev cTys (Y : cY) : List (ClassId × FieldType) := [(Y.2.1 20, .int), (Y.2.1 21, .byte), (Y.2.1 22, .object "java/lang/Object"), (Y.2.1 23, .object RX5), (Y.2.1 24, .object RJ5)]
/-- words of the tables that ride from state to state -/
def cNest (U : State) : Prop := (∀ a i b n d h, Cond.fieldLinkNest a i b n d h ∈ lw_tbl → va_Nw (.fieldLinkNest a i b n d h) U) ∧ (∀ a i x h, Cond.methodLinkNest a i x h ∈ lw_tbl → va_Nw (.methodLinkNest a i x h) U) ∧ (∀ x, Cond.declares x ∈ lw_tbl → va_Nw (.declares x) U) ∧ (∀ C T, Cond.castable C T ∈ lw_tbl → va_Nw (.castable C T) U)
theorem cNest.moved {s U : State} (hW : s.WarmedH U.vm) (h : cNest s) : cNest U := ⟨fun a i b n d g hw => va_Nw.warmF hW (h.1 a i b n d g hw), fun a i x g hw => va_Nw.warmM hW (h.2.1 a i x g hw), fun x hw => va_Nw.warmD hW (h.2.2.1 x hw), fun C T hw => va_Nw.warmC hW (h.2.2.2 C T hw)⟩
/-- pairs of classes not castable -/
def cNcs : List (String × String) := [("java/lang/NullPointerException", "java/lang/ArrayIndexOutOfBoundsException"), ("java/lang/ClassCastException", "java/lang/ArrayIndexOutOfBoundsException"), ("java/lang/ClassCastException", "java/lang/NullPointerException"), ("[I", RX18), (RX18, "[I"), (RX10, RX7), (RX7, RX10), (RX13, RX11), (RX14, RX11), (RX11, RX13), (RX11, RX14), (RX13, RX14), (RX14, RX13)]
def cNc (U : State) : Prop := ∀ q ∈ cNcs, va_Nc q.1 q.2 U
theorem cNc.moved {s U : State} (hW : s.WarmedH U.vm) (h : cNc s) : cNc U := fun q hq => (h q hq).moved hW.alike
/-- calls through java.util.Iterator; interfaces' methods -/
def cFws : List (String × MethodName × MethodName) := [(RX9, ⟨"java/util/Iterator", "hasNext", "()Z"⟩, yX9_hasNext), (RX9, ⟨"java/util/Iterator", "next", "()Ljava/lang/Object;"⟩, yX9_next)]
theorem cFws_no : ∀ q ∈ cFws, q.2.1.cls ≠ "java/lang/invoke/MethodHandle" ∧ q.2.1.cls ≠ "java/lang/invoke/VarHandle" := by decide +kernel
/-- the lambdas' interfaces' methods -/
def cIfs : List MethodName := [⟨"ActorTrees$Strategy", "restarts", "(II)Z"⟩, ⟨"ActorTrees$Test", "is", "(Ljava/lang/Object;)Z"⟩, ⟨"ActorTrees$Behaviour", "deals", "(LActorTrees$Actor;LActorTrees$Count;)V"⟩]
theorem cIfs_no : ∀ x ∈ cIfs, x.cls ≠ "java/lang/invoke/MethodHandle" ∧ x.cls ≠ "java/lang/invoke/VarHandle" := by decide +kernel
def cIf (x : MethodName) (U : State) : Prop := (Cond.declares x).before #[] U = true ∧ (Cond.interfaceMethod x.cls x.cls x.name x.desc).before #[] U = true
theorem cIf.moved {x : MethodName} (hx : x.cls ≠ "java/lang/invoke/MethodHandle" ∧ x.cls ≠ "java/lang/invoke/VarHandle") {u U : State} (hvm : u.vm.Alike U.vm) (h : cIf x u) : cIf x U := by
  obtain ⟨h1, h2⟩ := h
  obtain ⟨r, meth, hn, -⟩ := Cond.declares_spec h1
  have tr : ∀ {c : Cond}, c.onTables = true → c.before #[] (u.setVm U.vm) = true → c.before #[] U = true := by
    intro c hc h
    have e := Cond.onTables_vm (A := #[]) (A' := #[]) (U := u) (U' := U) U.vm c hc
    have hU : U.setVm U.vm = U := rfl
    rw [hU] at e
    rw [← e]
    exact h
  exact ⟨tr rfl (by rw [Cond.declares_setVm hvm]; exact h1), tr rfl (by rw [Cond.interfaceMethod_setVm hvm (r := r) hn hx]; exact h2)⟩
def cFace (U : State) : Prop := (∀ q ∈ cFws, va_Fw q.1 q.2.1 q.2.2 U) ∧ ∀ x ∈ cIfs, cIf x U
theorem cFace.moved {s U : State} (hW : s.WarmedH U.vm) (h : cFace s) : cFace U := ⟨fun q hq => va_Fw.moved (cFws_no q hq) hW.alike (h.1 q hq), fun x hx => cIf.moved (cIfs_no x hx) hW.alike (h.2 x hx)⟩
/-- the lambdas' sites by the codes of their classes -/
def cSites : List (Nat × Cond) := [(30, siteWord_1_1), (31, siteWord_1_2), (32, siteWord_1_3), (33, siteWord_1_4), (34, siteWord_1_5), (35, siteWord_1_13), (36, siteWord_1_6), (37, siteWord_1_7), (38, siteWord_1_8), (39, siteWord_1_9), (40, siteWord_1_10), (41, siteWord_1_11), (42, siteWord_1_12), (43, siteWord_1_14), (44, siteWord_1_15), (45, siteWord_1_16)]
/-- a site's tables: the class of its lambdas; its one object, if nothing is captured (the old number k + 230) -/
def cLam1 (Y : cY) (U : State) (k : Nat) (x : MethodName) (pc index : Nat) (σ : Lambda.Shape) : Prop :=
  ∃ (m : MethodId) (kc : Class) (cf : ClassFile) (i0 p0 : Nat) (l : Linked), U.methodNamed? x = some m ∧ U.vm.classes[m.cls]? = some kc ∧ kc.cf = some cf ∧ Lambda.shapeOf? cf index = some σ ∧
    (kc.callSites.find? fun y => y.1 == m.idx && y.2.1 == pc) = some (i0, p0, l) ∧ Lambda.isMade { classPath := fun _ => none } U.vm m.cls σ (Y.2.2.1 k) = true ∧ U.lambdaCallable σ (Y.2.2.1 k) = true ∧
    ((l = .constant (Y.2.1 (1230 + k)) ∧ σ.captured = []) ∨ (l = .makes (Y.2.2.1 k) ∧ σ.captured ≠ []))
theorem cLam1.moved {Y : cY} {s U : State} {k : Nat} {x : MethodName} {pc index : Nat} {σ : Lambda.Shape} (hW : s.WarmedH U.vm) (h : cLam1 Y s k x pc index σ) : cLam1 Y U k x pc index σ := by
  obtain ⟨m, kc, cf, i0, p0, l, hm, hk, hcf, hsh, hfind, hmade, hcall, hl⟩ := h
  obtain ⟨kc', hk', he⟩ := hW.alike.2.2 _ _ hk
  have hm' : U.methodNamed? x = some m := by
    have := State.methodNamed?_setVm (s := s) hW.alike x
    rw [hm] at this
    exact this
  refine ⟨m, kc', cf, i0, p0, l, hm', hk', by rw [he]; exact hcf, hsh, by rw [he]; exact hfind, Lambda.isMade_warmer hW hmade, ?_, hl⟩
  have hA := hW.alike
  simp only [State.lambdaCallable, hA.findClass, hA.assignable, hA.superclasses, hA.declaredIn] at hcall ⊢
  exact hcall
def cLam (Y : cY) (U : State) : Prop := ∀ q ∈ cSites, ∀ (x : MethodName) (pc index : Nat) (σ : Lambda.Shape), q.2 = .lambdaSite x pc index σ → cLam1 Y U q.1 x pc index σ
theorem cLam.moved {Y : cY} {s U : State} (hW : s.WarmedH U.vm) (h : cLam Y s) : cLam Y U := fun q hq x pc index σ e => (h q hq x pc index σ e).moved hW
/-- the statics that the code reads -/
def cOV (Y : cY) (i : Nat) : Value := if Y.2.1 (2000 + i) = 0 then .null else .ref (Y.2.1 (1000 + i))
def cZ (Y : cY) (U : State) : Prop := va_Z "java/lang/Throwable" "UNASSIGNED_STACK" "[Ljava/lang/StackTraceElement;" (cOV Y 257) Y.2.2.2.1 U Y.2.2.2.2 ∧ va_Z "java/lang/Throwable" "SUPPRESSED_SENTINEL" "Ljava/util/List;" (cOV Y 258) Y.2.2.2.1 U Y.2.2.2.2 ∧
  va_Z "java/lang/Integer$IntegerCache" "high" "I" (.int 127) Y.2.2.2.1 U Y.2.2.2.2 ∧ va_Z "java/lang/Integer$IntegerCache" "cache" "[Ljava/lang/Integer;" (.ref (Y.2.1 1256)) Y.2.2.2.1 U Y.2.2.2.2 ∧ vk_R "ActorTrees$Failure" 7 "" (Y.2.1 1259) U ∧
  vx_L "java/lang/Throwable" "UNASSIGNED_STACK" "[Ljava/lang/StackTraceElement;" Y.2.2.2.1 U Y.2.2.2.2 ∧ vx_L "java/lang/Throwable" "SUPPRESSED_SENTINEL" "Ljava/util/List;" Y.2.2.2.1 U Y.2.2.2.2
theorem cZ.moved {Y : cY} {s U : State} (hW : s.WarmedH U.vm) (h : cZ Y s) : cZ Y U := ⟨h.1.moved hW.alike, h.2.1.moved hW.alike, h.2.2.1.moved hW.alike, h.2.2.2.1.moved hW.alike, h.2.2.2.2.1.warm hW, h.2.2.2.2.2.1.moved hW.alike, h.2.2.2.2.2.2.moved hW.alike⟩
/-- the named modules of the bootstrap loader that hold our packages -/
def cMods (vm : Vm) : Prop := (vm.modules.all fun m => m.loader.isSome || m.name == "java.base" || !(castPackages_1.any fun p => m.packages.contains p)) = true
theorem cMods.moved {s U : State} (hW : s.WarmedH U.vm) (h : cMods s.vm) : cMods U.vm := by
  have e1 := hW.alike.1
  unfold cMods
  rw [e1]
  exact h
def cB (Y : cY) (U : State) : Prop := va_K Y.1 ccl (cTys Y) U ∧ cNest U ∧ va_AO "java/lang/Object" U ∧ va_AO RX5 U ∧ cNc U ∧ cFace U ∧ cLam Y U ∧ cZ Y U ∧ cMods U.vm
theorem cB.moved {Y : cY} {s U : State} (hW : s.WarmedH U.vm) (h : cB Y s) : cB Y U := ⟨va_K.moved hW.alike h.1, h.2.1.moved hW, h.2.2.1.moved hW.alike, h.2.2.2.1.moved hW.alike, h.2.2.2.2.1.moved hW, h.2.2.2.2.2.1.moved hW, h.2.2.2.2.2.2.1.moved hW, h.2.2.2.2.2.2.2.1.moved hW, h.2.2.2.2.2.2.2.2.moved hW⟩
def cOk (X : gCx) (Y : cY) (own : String) (cc : ByteArray) (d : Nat) : Prop := gOk X own cc ∧ cB Y (gSt X) ∧ cOld Y (gSt X).heap ∧ d + 16 ≤ (gRm X).frames ∧ 64 * d + 10400 ≤ (gRm X).locals ∧ (gLn X).stackTraces = false ∧ (∀ q, (gSt X).heap.size ≤ q → Y.2.2.2.1 q) ∧ ∀ q, q < Y.2.2.2.2.size → ¬ Y.2.2.2.1 q
theorem ccl_lt {ci : Nat} {r : vw_C} (h : ccl[ci]? = some r) : ci < 17 := (List.getElem?_eq_some_iff.mp h).1
theorem cH.obj {Y : cY} {ad : Nat → Nat} {s : cS} {H : Heap} {a ci : Nat} {r : vw_C} (h : cH Y ad s H) (hk : cK s a = ci + 1) (hr : ccl[ci]? = some r) : ∃ cell : Cell, H[ad a]? = some cell ∧ cell.cls = Y.1.1 ci ∧ cell.vm = .none ∧ cell.monitor = {} ∧ ∀ k, k < r.2.2 → cell.slots[Y.1.2 ci k]? = some (tv ad (cVal s (cFl ci k) a)) := by
  have hlt := ccl_lt hr
  obtain ⟨-, hA⟩ := h.2.2.1 a (by rw [hk]; omega)
  unfold cAt at hA
  rw [if_neg (by rw [hk]; omega), if_pos (by rw [hk]; omega)] at hA
  obtain ⟨r', h1, cell, h2⟩ := hA
  rw [hk, Nat.add_sub_cancel] at h1 h2
  cases h1.symm.trans hr
  exact ⟨cell, h2⟩
theorem cH.arr {Y : cY} {ad : Nat → Nat} {s : cS} {H : Heap} {a k : Nat} (h : cH Y ad s H) (hk : cK s a = k) (h1 : 20 ≤ k) (h2 : k < 25) : H[ad a]? = some (arrV (Y.2.1 k) (cL s a) (fun j => tv ad (cVal s (cEl k j) a))) := by
  obtain ⟨-, hA⟩ := h.2.2.1 a (by rw [hk]; omega)
  unfold cAt at hA
  rw [if_neg (by rw [hk]; omega), if_neg (by rw [hk]; omega), if_pos (by rw [hk]; omega), hk] at hA
  exact hA
theorem cH.vok {Y : cY} {ad : Nat → Nat} {s : cS} {H : Heap} {a f : Nat} (h : cH Y ad s H) (hk : cK s a ≠ 0) : vOk s (cVal s f a) := by
  unfold cVal
  cases cRef f with
  | false => trivial
  | true =>
    show vOk s (vr (cR s f a))
    cases hx : cR s f a with
    | none => trivial
    | some u => exact h.2.2.2.2.1 f a u hk hx
section GCH
variable {α : Type} {X : gCx} {Y : cY} {M : cMd α} {F : Option (α × cS)} {s s1 : cS} {pc pc' d : Nat} {lv lv' : List (Nat × Value)} {st st' : List Value} {own : String} {cc : ByteArray}
/-- a step that reads -/
theorem gc_rd (hh : ∀ (ad : Nat → Nat) (H : Heap) (locs : List Loc) (cells slots : Nat) (Q : State → Prop) (ls : Array Slot), cH Y ad s H → cRf s lv st → gHas ls M.1 (lmap ad lv) → gW X H locs cells slots Q (F0 (gMe X) pc' ls (st'.map (tv ad))) → gW X H locs cells slots Q (F0 (gMe X) pc ls (st.map (tv ad))))
    (hr : ∀ (ad : Nat → Nat) (H : Heap), cH Y ad s H → cRf s lv st → cRf s lv st') (k : GC X Y M F s pc' lv st') : GC X Y M F s pc lv st := by
  intro r t' h
  obtain ⟨h1, h2⟩ := k r t' h
  exact ⟨h1, fun ad mc ms cells slots H locs ls a b c d e f g i j l => hh ad H locs cells slots _ ls e f l (h2 ad mc ms cells slots H locs ls a b c d e (hr ad H e f) g i j l)⟩
/-- a step that writes an old cell -/
theorem gc_wr (hn : cn s1 = cn s) (hz : cz s1 = cz s) (hK : cK s1 = cK s) (hh : ∀ (ad : Nat → Nat) (H : Heap) (locs : List Loc) (cells slots : Nat) (Q : State → Prop) (ls : Array Slot), cH Y ad s H → cRf s lv st → va_S Y.2.2.2.1 (gSt X).heap H locs → gHas ls M.1 (lmap ad lv) → (∀ (H1 : Heap) (locs1 : List Loc), cH Y ad s1 H1 → va_S Y.2.2.2.1 (gSt X).heap H1 locs1 → gW X H1 locs1 cells slots Q (F0 (gMe X) pc' ls (st'.map (tv ad)))) → gW X H locs cells slots Q (F0 (gMe X) pc ls (st.map (tv ad))))
    (hr : cRf s lv st → cRf s lv st') (k : GC X Y M F s1 pc' lv st') : GC X Y M F s pc lv st := by
  intro r t' h
  obtain ⟨h1, h2⟩ := k r t' h
  have h1 : cMo s t' := by
    unfold cMo at h1 ⊢
    rw [← hn, ← hz, ← hK]
    exact h1
  refine ⟨h1, fun ad mc ms cells slots H locs ls a b c d e f g i j l => hh ad H locs cells slots _ ls e f j l fun H1 locs1 e1 j1 => h2 ad mc ms cells slots H1 locs1 ls a b (by rw [hn]; exact c) (by rw [hz]; exact d) e1 ?_ (by rw [hn]; exact g) i j1 l⟩
  have q := hr f
  unfold cRf vOk at q ⊢
  rw [hK]
  exact q
theorem gc_get (hC : cOk X Y own cc d) {ci j index a : Nat} {C ref : String} {T : u_T} {N : Nat} {v : Value} (hk : cK s a = ci + 1) (hdg : decode cc pc = .ok (.getfield index, 3)) (hr : ccl[ci]? = some (C, T, N)) (hj : j < N) (hin : ∀ w ∈ u_ws C T N, w ∈ lw_all) (hlink : Cond.fieldLink own index ref (T j).2.1 (T j).2.2.1 ∈ lw_all) (hsame : ∀ x, (gSt X).fieldFound? (T j).1 (T j).2.1 (T j).2.2.1 = some x → (gSt X).fieldFound? ref (T j).2.1 (T j).2.2.1 = some x)
    (hv : cVal s (cFl ci j) a = v) (k : GC X Y M F s (pc + 3) lv (v :: st)) : GC X Y M F s pc lv (.ref a :: st) := by
  subst hv
  refine gc_rd (fun ad H locs cells slots Q ls hH hR g kk => ?_) (fun ad H hH hR => hR.tail.cons (hH.vok (by rw [hk]; omega))) k
  obtain ⟨cell, q1, q2, q3, -, q4⟩ := hH.obj hk hr
  obtain ⟨p, l, e, R, z, m, args, below, meth, c⟩ := X
  obtain ⟨⟨hx, hb, hown, hts, hlk⟩, hB, -⟩ := hC
  obtain ⟨hS, hfc, kC, hkC, hkind⟩ := hB.1.1 ci _ hr
  obtain ⟨cf, kf, fi, f, hi, hsl⟩ := hS j hj
  refine W.getf (a := ad a) hx hb hown (hts _ hlink) (hsame _ hi) (u_facts hfc hkC (u_lays hts hin hj) hi).1 q1 (by rw [q3]; exact fun h => by cases h) (v := tv ad (cVal s (cFl ci j) a)) ?_ rfl rfl hdg kk
  rw [hsl]; exact q4 j hj
theorem gc_getN (hC : cOk X Y own cc d) {ci j index a : Nat} {C ref host : String} {T : u_T} {N : Nat} {v : Value} (hk : cK s a = ci + 1) (hdg : decode cc pc = .ok (.getfield index, 3)) (hr : ccl[ci]? = some (C, T, N)) (hj : j < N) (hin : ∀ w ∈ u_ws C T N, w ∈ lw_all) (hlink : Cond.fieldLinkNest own index ref (T j).2.1 (T j).2.2.1 host ∈ lw_tbl) (hsame : ∀ x, (gSt X).fieldFound? (T j).1 (T j).2.1 (T j).2.2.1 = some x → (gSt X).fieldFound? ref (T j).2.1 (T j).2.2.1 = some x)
    (hv : cVal s (cFl ci j) a = v) (k : GC X Y M F s (pc + 3) lv (v :: st)) : GC X Y M F s pc lv (.ref a :: st) := by
  subst hv
  refine gc_rd (fun ad H locs cells slots Q ls hH hR g kk => ?_) (fun ad H hH hR => hR.tail.cons (hH.vok (by rw [hk]; omega))) k
  obtain ⟨cell, q1, q2, q3, -, q4⟩ := hH.obj hk hr
  obtain ⟨p, l, e, R, z, m, args, below, meth, c⟩ := X
  obtain ⟨⟨hx, hb, hown, hts, hlk⟩, hB, -⟩ := hC
  obtain ⟨hS, hfc, kC, hkC, hkind⟩ := hB.1.1 ci _ hr
  obtain ⟨cf, kf, fi, f, hi, hsl⟩ := hS j hj
  refine va_Wgetf (a := ad a) hx hb hown (va_Nw.use rfl (hB.2.1.1 _ _ _ _ _ _ hlink)) (hsame _ hi) (u_facts hfc hkC (u_lays hts hin hj) hi).1 q1 (by rw [q3]; exact fun h => by cases h) (v := tv ad (cVal s (cFl ci j) a)) ?_ rfl rfl hdg kk
  rw [hsl]; exact q4 j hj
end GCH
