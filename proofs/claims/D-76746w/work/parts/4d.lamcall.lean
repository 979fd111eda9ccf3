/-! calls on lambdas, by shape -/
section GCMD
variable {α β : Type} {X : gCx} {Y : cY} {M : cMd α} {s : cS} {pc d d' index count n b k : Nat} {lv : List (Nat × Value)} {rest As : List Value} {own : String} {cc : ByteArray} {x xs y : MethodName} {ρ' : β → Option Value ⊕ Nat} {f : Option (β × cS)} {K : β → cS → Option (α × cS)} {σ : Lambda.Shape} {pcs idx nL : Nat} {B : ByteArray} {ret : Option FieldType}
theorem cH.lam {Y : cY} {ad : Nat → Nat} {s : cS} {H : Heap} {a k : Nat} (h : cH Y ad s H) (hk : cK s a = k) (h3 : 30 ≤ k) (h9 : k < 99) : ∃ cell : Cell, H[ad a]? = some cell ∧ cell.cls = Y.2.2.1 k ∧ cell.vm = .none ∧ cell.slots.toList = (cCap k).map (fun f => tv ad (cVal s f a)) := by
  obtain ⟨-, hA⟩ := h.2.2.1 a (by rw [hk]; omega)
  unfold cAt at hA
  rw [if_neg (by rw [hk]; omega), if_neg (by rw [hk]; omega), if_neg (by rw [hk]; omega), hk] at hA
  exact hA
/-- what holds where the made class's method begins -/
def mGo (Y : cY) (σ : Lambda.Shape) (nm : String) (B : ByteArray) (nL : Nat) (ret : Option FieldType) (d : Nat) (k b : Nat) (As : List Value) (s s1 : cS) (out : Option Value ⊕ Nat) (l : Launch) : Prop :=
  ∀ (ad : Nat → Nat) (H : Heap) (cell : Cell) (p : Program) (e : Env) (R : Room) (z : State) (m : MethodId) (a : Array Value) (below : List Frame) (meth : Method) (c : Code) (ls : Array Slot),
    mIn Y σ nm B nL ret d (cn s1 - cn s) (cz s1 - cz s) (p, l, e, R, z, m, a, below, meth, c) → z.heap = H → cH Y ad s H → (∀ v ∈ As, vOk s v) → H[ad b]? = some cell → cell.vm = .none → cell.slots.toList = (cCap k).map (fun f => tv ad (cVal s f b)) → gHas ls nL (lmap ad (lv_s 0 (.ref b :: As))) →
      W p l e R z m a below meth c H [] 0 0 (gx_MQ below (cQc Y s ad out s1) (cXq Y s ad out s1) a z (cn s1 - cn s) (cz s1 - cz s) Y.2.2.2.1) (F0 m 0 ls [])
set_option maxHeartbeats 1000000 in
set_option maxRecDepth 100000 in
theorem gc_made (hC : cOk X Y own cc d) (hnL : gLoc X = M.1) (hk : cK s b = k) (hk3 : 30 ≤ k ∧ k < 99) (hsite : (k, Cond.lambdaSite xs pcs idx σ) ∈ cSites) (hxI : x ∈ cIfs) (hσx : σ.iface = x.cls ∧ σ.name = x.name ∧ σ.sam.toString = x.desc) (hcode : mdC σ xs.cls B nL ret) (hplain : plainName (xs.cls ++ "$$Lambda") = true) (hnLk : nL ≤ 3)
    (hdg : decode cc pc = .ok (.invokeinterface index count, 5)) (w1 : Cond.methodLink own index x ∈ lw_all) (hyl : (parseMethodDescriptor x.desc).map (fun d => d.parameters.length) = some n) (hn : As.length = n) (hlen : As.length + 1 ≤ nL) (hcat : ∀ v ∈ As, v.category = 1) (hd : d' + 2 ≤ d) (hs8 : (rest.map fun v => v.category).sum ≤ 8)
    (hmo : ∀ (r : β) (s1 : cS), f = some (r, s1) → cMo s s1) (inner : ∀ (r : β) (s1 : cS), f = some (r, s1) → mGo Y σ xs.cls B nL ret d' k b As s s1 (ρ' r) (gLn X))
    (kn : ∀ (r : β) (s1 : cS) (v : Option Value), ρ' r = .inl v → GC X Y M (K r s1) s1 (pc + 5) lv (v.toList ++ rest)) (kx : ∀ (r : β) (s1 : cS) (x : Nat), ρ' r = .inr x → GX X Y M (K r s1) s1 pc lv x) : GC X Y M (ob f K) s pc lv (As.reverse ++ .ref b :: rest) := by
  refine gc_after (len := 5) (rest := rest) (fun r1 s1 hf => ⟨hmo r1 s1 hf, fun ad H locs cells slots ls hH hR hg h1 h2 => ?_⟩) (fun v hv => mem_st2 hv) kn kx
  have inner := inner r1 s1 hf
  obtain ⟨p, l, e, R, z, m, args, below, meth, c⟩ := X
  obtain ⟨⟨hx0, hb, hown, hts, hlk⟩, hB, hO, hfr, hlo, hl, hA1, hA2⟩ := hC
  have hfr : d + 16 ≤ R.frames := hfr
  have hlo : 64 * d + 10400 ≤ R.locals := hlo
  have h1 : cells + (cn s1 - cn s) ≤ R.cells := h1
  have h2 : slots + (cz s1 - cz s) ≤ R.slots := h2
  obtain ⟨md, kc, cf, i0, p0, li, g1, g2, g3, g4, g5, hmade, hcan, g8⟩ := hB.2.2.2.2.2.2.1 _ hsite xs pcs idx σ rfl
  obtain ⟨kd, hkd, hnd⟩ := className_of_methodNamed g1
  cases Option.some.inj (g2.symm.trans hkd)
  have hmd : mdAt z.vm (Y.2.2.1 k) σ xs.cls := ⟨md.cls, kc, hmade, g2, hnd⟩
  obtain ⟨cell, q1, q2, q3, q4⟩ := hH.lam hk hk3.1 hk3.2
  refine ⟨((Value.ref b :: As).map (tv ad)).toArray, ?_⟩
  intro T hT XS
  obtain ⟨hdecl, hface⟩ := hB.2.2.2.2.2.1.2 x hxI
  have hxn := cIfs_no x hxI
  obtain ⟨r0, r, hn0, hrm, hstR, hsigR⟩ := Cond.declares_spec hdecl
  obtain ⟨cL, kL, r1', hcL, hkL, hiL, hfoundL, hn1⟩ := Cond.interfaceMethod_spec hface
  cases Option.some.inj (hn0.symm.trans hn1)
  have hr0cls : r0.cls = cL := Option.some.inj ((findClass_of_methodNamed hn0).symm.trans hcL)
  obtain ⟨hnameR, hdescR⟩ := name_of_methodNamed hn0 hrm
  obtain ⟨kK, file, methk, ck, iface, found, hkK, hkn, hmk, hck, hbytes, hml, htab, hlkK, hfl, hretk, hif, hfound, hsel⟩ := hmd.meth hcode
  rw [hσx.1] at hif
  cases Option.some.inj (hcL.symm.trans hif)
  have hfr0 : found = r0 := by
    have e1 : z.methodFound? x.cls x.name x.desc = some r0 := hfoundL
    have hcL' : z.vm.findClass x.cls = some cL := hcL
    have hkL' : z.vm.classes[cL]? = some kL := hkL
    simp only [State.methodFound?, hcL', hkL', hiL, Option.bind_eq_bind, Option.bind_some] at e1
    rw [hσx.2.1, hσx.2.2] at hfound
    rw [hfound] at e1
    exact Option.some.inj e1
  subst hfr0
  obtain ⟨i2, hi2, hasg, hway⟩ := State.lambdaCallable_spec hcan
  rw [hσx.1] at hi2
  cases Option.some.inj (hcL.symm.trans hi2)
  rw [hσx.2.1, hσx.2.2] at hway
  have hal := hy_len (ad := ad) hyl hn _ hsigR
  obtain ⟨vm₁, X₁, hstep₁⟩ := XS.invokeinterface hx0 hown (hts _ w1) hn0 hrm hstR (by rw [hr0cls]; exact hkL) hiL hxn (a := ad b) (cell := cell) (kcell := kK) (by rw [hT]; exact q1)
    (fun z h => by rw [q3] at h; cases h) (by rw [q2]; exact hkK) (by rw [q2, hr0cls]; exact hasg) (m' := ⟨Y.2.2.1 k, 1⟩) (by rw [q2, Launch.admits_selectMethod XS.admits]; exact hsel) hmk (by rw [q2, hnameR, hdescR]; exact hway) (by rw [hfl]; decide) (by simp [Method.isAbstract, hfl, hasFlag, Acc.abstract])
    (g := F0 m pc ls ((As.reverse ++ Value.ref b :: rest).map (tv ad))) rfl (argsL := As.map (tv ad)) (rest := rest.map (tv ad)) hal st_map (by rw [hb]; exact hdg)
  have hmd1 : mdAt (T.setVm vm₁).vm (Y.2.2.1 k) σ xs.cls := hmd.moved X₁.warmed
  obtain ⟨kK1, file1, methk1, ck1, -, -, hkK1, hkn1, hmk1, hck1, hbytes1, hml1, htab1, hlkK1, -, hretk1, -⟩ := hmd1.meth hcode
  have hres := gx_into X₁ (g := F0 m pc ls (rest.map (tv ad))) rfl (hg.1.1.trans hnL.symm) (ig := .invokeinterface index count) (len := 5) (by rw [hb]; exact hdg) (mk := ⟨Y.2.2.1 k, 1⟩) ((Value.ref b :: As).map (tv ad)).toArray
    (R' := { frames := d' + 17, cells := cn s1 - cn s, slots := cz s1 - cz s, locals := 64 * d' + 10464 }) hmk1 hck1 hlkK1 (State.plainMethod.of_name (fun k' hk' => by cases Option.some.inj (hkK1.symm.trans hk'); rw [hkn1]; exact hplain))
    (by show d' + 17 + 1 ≤ R.frames; omega) (by show 2 * 0 + ((rest.map (tv ad)).map fun v => v.category).sum + (ck1.maxLocals + 11) + (64 * d' + 10464) ≤ R.locals; rw [cat_map, hml1]; omega) h1 h2
    (Qc := cQc Y s ad (ρ' r1) s1) (XC := cXq Y s ad (ρ' r1) s1) (mc := cn s1 - cn s) (ms := cz s1 - cz s) (free := Y.2.2.2.1) (by
      have hTH : (T.setVm vm₁).heap = H := hT
      rw [hml1, lg_entry_eq, hTH]
      have hcatA : ∀ v ∈ (Value.ref b :: As), v.category = 1 := List.forall_mem_cons.mpr ⟨rfl, hcat⟩
      have hl1 := lv_entry ((Value.ref b :: As).map (tv ad)) (n := nL) (by rw [lg_sl_map]; exact lg_le hcatA (by simpa using hlen))
      rw [lv_args_map, lv_args_s hcatA] at hl1
      refine inner ad H cell p e _ _ _ _ _ _ _ _ ⟨hx0, hbytes1, hml1, by rw [htab1], hlkK1, hretk1, hmd1, lwW.moved (s := z) (U := (T.setVm vm₁).calling (F0 m pc ls (rest.map (tv ad))) ⟨Y.2.2.1 k, 1⟩ ((Value.ref b :: As).map (tv ad)).toArray) X₁.warmed (lwW.of hts), cB.moved (s := z) (U := (T.setVm vm₁).calling (F0 m pc ls (rest.map (tv ad))) ⟨Y.2.2.1 k, 1⟩ ((Value.ref b :: As).map (tv ad)).toArray) X₁.warmed hB, rfl, rfl, rfl, rfl⟩ hTH hH (fun v hv => hR.2 v (mem_st (List.mem_cons_of_mem _ hv))) q1 q3 q4 ⟨hl1, fun q hq => ?_⟩
      obtain ⟨q0, hq0, rfl⟩ := List.mem_map.mp hq
      show (tv ad q0.2).category = 1
      rw [tv_cat]
      rw [← lv_args_s hcatA] at hq0
      exact hcatA _ (lv_args_mem _ 0 q0 hq0))
  rcases hres with ⟨v, t, T', L, X', hL, e1, e2, hq, hsteps⟩ | ⟨q, t, T', L, X', hL, e1, e2, hq, hsteps⟩
  · exact Or.inl ⟨v, _, t, T', L, hT, X', hL, e1, e2, hq, fun target h => hstep₁ _ fun acts => by rw [doInvoke_state]; exact hsteps.trans h⟩
  · exact Or.inr ⟨q, _, t, T', L, hT, X', hL, e1, e2, hq, hstep₁ _ fun acts => by rw [doInvoke_state]; exact hsteps⟩
/-- an answer that is 0 or 1 -/
def zI {S : Type} (f : Option (Int32 × S)) : Option (Int32 × S) := ob f (fun r t => gd (r = nI 0 ∨ r = nI 1) (some (r, t)))
def zV {S : Type} (f : Option (Unit × S)) : Option ((Unit ⊕ Nat) × S) := ob f (fun _ t => some (.inl (), t))
theorem zI_some {S : Type} {f : Option (Int32 × S)} {r : Int32} {t : S} (h : zI f = some (r, t)) : f = some (r, t) ∧ (r = nI 0 ∨ r = nI 1) := by
  unfold zI at h
  cases f with
  | none => cases h
  | some q =>
    obtain ⟨r', t'⟩ := q
    rw [ob_some] at h
    unfold gd at h
    split at h
    · rename_i hz
      cases h
      exact ⟨rfl, hz⟩
    · cases h
theorem zV_some {S : Type} {f : Option (Unit × S)} {r : Unit ⊕ Nat} {t : S} (h : zV f = some (r, t)) : f = some ((), t) ∧ r = .inl () := by
  unfold zV at h
  cases f with
  | none => cases h
  | some q =>
    obtain ⟨r', t'⟩ := q
    rw [ob_some] at h
    cases h
    exact ⟨rfl, rfl⟩
theorem mo_zI {f : Option (Int32 × cS)} (h : MO s f) : MO s (zI f) := fun r t q => h r t (zI_some q).1
theorem mo_zV {f : Option (Unit × cS)} (h : MO s f) : MO s (zV f) := fun r t q => h () t (zV_some q).1
theorem cFn_zV {l : Launch} {ws : List Cond} {av : List Value} {f : Option (Unit × cS)} (h : cFn l Y y ws d av s f rV) : cFn l Y y ws d av s (zV f) rVx := fun r t q => by
  obtain ⟨h1, h2⟩ := zV_some q
  subst h2
  exact h () t h1
def bA : ByteArray := ⟨#[27, 28, 184, 0, 17, 172]⟩
theorem bA0 : decode bA 0 = .ok (.iload_n 1, 1) := by decide +kernel
theorem bA1 : decode bA 1 = .ok (.iload_n 2, 1) := by decide +kernel
theorem bA2 : decode bA 2 = .ok (.invokestatic 17, 3) := by decide +kernel
theorem bA5 : decode bA 5 = .ok (.ireturn, 1) := by decide +kernel
def bB : ByteArray := ⟨#[42, 180, 0, 15, 43, 192, 0, 19, 184, 0, 25, 172]⟩
theorem bB0 : decode bB 0 = .ok (.aload_n 0, 1) := by decide +kernel
theorem bB1 : decode bB 1 = .ok (.getfield 15, 3) := by decide +kernel
theorem bB4 : decode bB 4 = .ok (.aload_n 1, 1) := by decide +kernel
theorem bB5 : decode bB 5 = .ok (.checkcast 19, 3) := by decide +kernel
theorem bB8 : decode bB 8 = .ok (.invokestatic 25, 3) := by decide +kernel
theorem bB11 : decode bB 11 = .ok (.ireturn, 1) := by decide +kernel
def bD : ByteArray := ⟨#[43, 44, 184, 0, 17, 177]⟩
theorem bD0 : decode bD 0 = .ok (.aload_n 1, 1) := by decide +kernel
theorem bD1 : decode bD 1 = .ok (.aload_n 2, 1) := by decide +kernel
theorem bD2 : decode bD 2 = .ok (.invokestatic 17, 3) := by decide +kernel
theorem bD5 : decode bD 5 = .ok (.return_, 1) := by decide +kernel
def bE : ByteArray := ⟨#[42, 180, 0, 15, 43, 44, 182, 0, 22, 177]⟩
theorem bE0 : decode bE 0 = .ok (.aload_n 0, 1) := by decide +kernel
theorem bE1 : decode bE 1 = .ok (.getfield 15, 3) := by decide +kernel
theorem bE4 : decode bE 4 = .ok (.aload_n 1, 1) := by decide +kernel
theorem bE5 : decode bE 5 = .ok (.aload_n 2, 1) := by decide +kernel
theorem bE6 : decode bE 6 = .ok (.invokevirtual 22, 3) := by decide +kernel
theorem bE9 : decode bE 9 = .ok (.return_, 1) := by decide +kernel
/-- the target, as the shape names it -/
def mdY (σ : Lambda.Shape) (y : MethodName) : Prop := (σ.implClass = y.cls ∧ σ.implName = y.name ∧ σ.implDesc.toString = y.desc) ∧ σ.implItf = false
section SHP
variable {bytes : ByteArray} {maxL : Nat} {ny : Nat}
set_option maxHeartbeats 1000000 in
/-- two ints, a static target -/
theorem gc_lamA (hC : cOk X Y own cc d) (hnL : gLoc X = M.1) {v1 v2 : Int32} {f : Option (Int32 × cS)} {K : Int32 → cS → Option (α × cS)} (hM : cFn (gLn X) Y y (ws_ y bytes maxL (some .boolean)) d' [.int v1, .int v2] s f rI) (hm : maxL ≤ 45) (hk : cK s b = k) (hk3 : 30 ≤ k ∧ k < 99) (hsite : (k, Cond.lambdaSite xs pcs idx σ) ∈ cSites) (hxI : x ∈ cIfs) (hσx : σ.iface = x.cls ∧ σ.name = x.name ∧ σ.sam.toString = x.desc)
    (hcode : mdC σ xs.cls bA 3 (some .boolean)) (hT : mdT σ xs.cls 17 14 16 13) (hσ : mdY σ y) (hplain : plainName (xs.cls ++ "$$Lambda") = true) (w2 : Cond.static y ∈ lw_all) (w4 : Cond.initialized y.cls ∈ lw_all) (w5 : Cond.code y bytes maxL (some .boolean) ∈ lw_all)
    (hy : (y.cls ≠ "java/lang/invoke/MethodHandle" ∧ y.cls ≠ "java/lang/invoke/VarHandle") ∧ (parseMethodDescriptor y.desc).map (fun d => d.parameters.length) = some 2)
    (hdg : decode cc pc = .ok (.invokeinterface index count, 5)) (w1 : Cond.methodLink own index x ∈ lw_all) (hyl : (parseMethodDescriptor x.desc).map (fun d => d.parameters.length) = some 2) (hd : d' + 2 ≤ d) (hs8 : (rest.map fun v => v.category).sum ≤ 8)
    (kn : ∀ (r : Int32) (s1 : cS) (v : Option Value), rI r = .inl v → GC X Y M (K r s1) s1 (pc + 5) lv (v.toList ++ rest)) (kx : ∀ (r : Int32) (s1 : cS) (x : Nat), rI r = .inr x → GX X Y M (K r s1) s1 pc lv x) : GC X Y M (ob (zI f) K) s pc lv (.int v2 :: .int v1 :: .ref b :: rest) := by
  refine gc_made (As := [.int v1, .int v2]) (d' := d') hC hnL hk hk3 hsite hxI hσx hcode hplain (by omega) hdg w1 hyl rfl (Nat.le_refl _) (List.forall_mem_cons.mpr ⟨rfl, List.forall_mem_cons.mpr ⟨rfl, fun _ h => absurd h List.not_mem_nil⟩⟩) hd hs8 (fun r s1 hf => (hM r s1 (zI_some hf).1).1) (fun r s1 hf => ?_) kn kx
  obtain ⟨hf, hz⟩ := zI_some hf
  have hc := (hM r s1 hf).2
  intro ad H cell p e R z m a below meth c ls hI hzH hH hv q1 q3 q4 hl
  refine lv_iload_n hI.1 hI.2.1 bA0 rfl (hl.get rfl) ?_
  refine lv_iload_n hI.1 hI.2.1 bA1 rfl (hl.get rfl) ?_
  exact wm_iret hI hzH hz bA5 (wm_callS hI hT hσ.1 hσ.2 hc hm w2 w4 w5 hy rfl hl.1.1 (Nat.le_refl _) (Nat.le_refl _) bA2 hH hv)
set_option maxHeartbeats 1000000 in
/-- one thing captured, one given and cast, a static target -/
theorem gc_lamB (hC : cOk X Y own cc d) (hnL : gLoc X = M.1) {v0 : Value} {a1 fc cI : Nat} {r0 : vw_C} {ds : String} {f : Option (Int32 × cS)} {K : Int32 → cS → Option (α × cS)} (hM : cFn (gLn X) Y y (ws_ y bytes maxL (some .boolean)) d' [v0, .ref a1] s f rI) (hm : maxL ≤ 45) (hk : cK s b = k) (hk3 : 30 ≤ k ∧ k < 99) (hcap : cCap k = [fc]) (hv0 : cVal s fc b = v0) (hka : cK s a1 = cI + 1) (hr : ccl[cI]? = some r0) (hsite : (k, Cond.lambdaSite xs pcs idx σ) ∈ cSites) (hxI : x ∈ cIfs) (hσx : σ.iface = x.cls ∧ σ.name = x.name ∧ σ.sam.toString = x.desc)
    (hcode : mdC σ xs.cls bB 2 (some .boolean)) (hT : mdT σ xs.cls 25 21 24 20) (hF : mdF σ xs.cls ds) (hK : mdK σ xs.cls r0.1) (hσ : mdY σ y) (hplain : plainName (xs.cls ++ "$$Lambda") = true) (hO0 : Cond.instantiable "java/lang/Object" 0 ∈ lw_all) (w2 : Cond.static y ∈ lw_all) (w4 : Cond.initialized y.cls ∈ lw_all) (w5 : Cond.code y bytes maxL (some .boolean) ∈ lw_all)
    (hy : (y.cls ≠ "java/lang/invoke/MethodHandle" ∧ y.cls ≠ "java/lang/invoke/VarHandle") ∧ (parseMethodDescriptor y.desc).map (fun d => d.parameters.length) = some 2)
    (hdg : decode cc pc = .ok (.invokeinterface index count, 5)) (w1 : Cond.methodLink own index x ∈ lw_all) (hyl : (parseMethodDescriptor x.desc).map (fun d => d.parameters.length) = some 1) (hd : d' + 2 ≤ d) (hs8 : (rest.map fun v => v.category).sum ≤ 8)
    (kn : ∀ (r : Int32) (s1 : cS) (v : Option Value), rI r = .inl v → GC X Y M (K r s1) s1 (pc + 5) lv (v.toList ++ rest)) (kx : ∀ (r : Int32) (s1 : cS) (x : Nat), rI r = .inr x → GX X Y M (K r s1) s1 pc lv x) : GC X Y M (ob (zI f) K) s pc lv (.ref a1 :: .ref b :: rest) := by
  refine gc_made (As := [.ref a1]) (d' := d') hC hnL hk hk3 hsite hxI hσx hcode hplain (by omega) hdg w1 hyl rfl (Nat.le_refl _) (List.forall_mem_cons.mpr ⟨rfl, fun _ h => absurd h List.not_mem_nil⟩) hd hs8 (fun r s1 hf => (hM r s1 (zI_some hf).1).1) (fun r s1 hf => ?_) kn kx
  obtain ⟨hf, hz⟩ := zI_some hf
  have hc := (hM r s1 hf).2
  intro ad H cell p e R z m a below meth c ls hI hzH hH hv q1 q3 q4 hl
  obtain ⟨cell1, j1, j2, j3, -⟩ := hH.obj hka hr
  have hcB : cB Y z := hI.2.2.2.2.2.2.2.2.1
  obtain ⟨-, hfc, kC, hkC, hkind⟩ := hcB.1.1 cI _ hr
  rw [hcap] at q4
  have hsl : cell.slots[0]? = some (tv ad v0) := by
    rw [← Array.getElem?_toList, q4, List.map_cons, hv0]; rfl
  have hvs : ∀ v ∈ [v0, .ref a1], vOk s v := List.forall_mem_cons.mpr ⟨by rw [← hv0]; exact hH.vok (by rw [hk]; omega), hv⟩
  refine lv_aload_n hI.1 hI.2.1 bB0 rfl (hl.get rfl) ?_
  refine wm_getf hI hF hO0 q1 q3 hsl bB1 ?_
  refine lv_aload_n hI.1 hI.2.1 bB4 rfl (hl.get rfl) ?_
  refine wm_cast hI hK (x := Y.1.1 cI) ⟨hfc, kC, hkC, hkind⟩ j1 j3 j2 bB5 ?_
  exact wm_iret hI hzH hz bB11 (wm_callS hI hT hσ.1 hσ.2 hc hm w2 w4 w5 hy rfl hl.1.1 (Nat.le_refl _) (Nat.le_refl _) bB8 hH hvs)
set_option maxHeartbeats 1000000 in
/-- two objects, a static target, nothing returned -/
theorem gc_lamD (hC : cOk X Y own cc d) (hnL : gLoc X = M.1) {a1 a2 : Nat} {f : Option ((Unit ⊕ Nat) × cS)} {K : Unit ⊕ Nat → cS → Option (α × cS)} (hM : cFn (gLn X) Y y (ws_ y bytes maxL none) d' [.ref a1, .ref a2] s f rVx) (hm : maxL ≤ 45) (hk : cK s b = k) (hk3 : 30 ≤ k ∧ k < 99) (hsite : (k, Cond.lambdaSite xs pcs idx σ) ∈ cSites) (hxI : x ∈ cIfs) (hσx : σ.iface = x.cls ∧ σ.name = x.name ∧ σ.sam.toString = x.desc)
    (hcode : mdC σ xs.cls bD 3 none) (hT : mdT σ xs.cls 17 14 16 13) (hσ : mdY σ y) (hplain : plainName (xs.cls ++ "$$Lambda") = true) (w2 : Cond.static y ∈ lw_all) (w4 : Cond.initialized y.cls ∈ lw_all) (w5 : Cond.code y bytes maxL none ∈ lw_all)
    (hy : (y.cls ≠ "java/lang/invoke/MethodHandle" ∧ y.cls ≠ "java/lang/invoke/VarHandle") ∧ (parseMethodDescriptor y.desc).map (fun d => d.parameters.length) = some 2)
    (hdg : decode cc pc = .ok (.invokeinterface index count, 5)) (w1 : Cond.methodLink own index x ∈ lw_all) (hyl : (parseMethodDescriptor x.desc).map (fun d => d.parameters.length) = some 2) (hd : d' + 2 ≤ d) (hs8 : (rest.map fun v => v.category).sum ≤ 8)
    (kn : ∀ (r : Unit ⊕ Nat) (s1 : cS) (v : Option Value), rVx r = .inl v → GC X Y M (K r s1) s1 (pc + 5) lv (v.toList ++ rest)) (kx : ∀ (r : Unit ⊕ Nat) (s1 : cS) (x : Nat), rVx r = .inr x → GX X Y M (K r s1) s1 pc lv x) : GC X Y M (ob f K) s pc lv (.ref a2 :: .ref a1 :: .ref b :: rest) := by
  refine gc_made (As := [.ref a1, .ref a2]) (d' := d') hC hnL hk hk3 hsite hxI hσx hcode hplain (by omega) hdg w1 hyl rfl (Nat.le_refl _) (List.forall_mem_cons.mpr ⟨rfl, List.forall_mem_cons.mpr ⟨rfl, fun _ h => absurd h List.not_mem_nil⟩⟩) hd hs8 (fun r s1 hf => (hM r s1 hf).1) (fun r s1 hf => ?_) kn kx
  have hc := (hM r s1 hf).2
  intro ad H cell p e R z m a below meth c ls hI hzH hH hv q1 q3 q4 hl
  refine lv_aload_n hI.1 hI.2.1 bD0 rfl (hl.get rfl) ?_
  refine lv_aload_n hI.1 hI.2.1 bD1 rfl (hl.get rfl) ?_
  exact wm_vret hI hzH (by cases r with
    | inl u => exact Or.inl rfl
    | inr q => exact Or.inr ⟨q, rfl⟩) bD5 (wm_callS hI hT hσ.1 hσ.2 hc hm w2 w4 w5 hy rfl hl.1.1 (Nat.le_refl _) (Nat.le_refl _) bD2 hH hv)
set_option maxHeartbeats 1000000 in
/-- an object captured, two given, its own method, nothing returned -/
theorem gc_lamE (hC : cOk X Y own cc d) (hnL : gLoc X = M.1) {a0 a1 a2 cI : Nat} {r0 : vw_C} {ds : String} {f : Option ((Unit ⊕ Nat) × cS)} {K : Unit ⊕ Nat → cS → Option (α × cS)} (hM : cFn (gLn X) Y y (ws_ y bytes maxL none) d' [.ref a0, .ref a1, .ref a2] s f rVx) (hm : maxL ≤ 45) (hk : cK s b = k) (hk3 : 30 ≤ k ∧ k < 99) (hcap : cCap k = [901]) (hv0 : cR s 901 b = some a0) (hka : cK s a0 = cI + 1) (hr : ccl[cI]? = some r0) (hsite : (k, Cond.lambdaSite xs pcs idx σ) ∈ cSites) (hxI : x ∈ cIfs) (hσx : σ.iface = x.cls ∧ σ.name = x.name ∧ σ.sam.toString = x.desc)
    (hcode : mdC σ xs.cls bE 3 none) (hT : mdT σ xs.cls 22 19 21 18) (hF : mdF σ xs.cls ds) (hσ : mdY σ y) (hplain : plainName (xs.cls ++ "$$Lambda") = true) (hO0 : Cond.instantiable "java/lang/Object" 0 ∈ lw_all) (w2 : Cond.instanceMethod y ∈ lw_all) (w3 : Cond.selects r0.1 y y ∈ lw_all) (w4 : Cond.initialized y.cls ∈ lw_all) (w5 : Cond.code y bytes maxL none ∈ lw_all)
    (hy : (y.cls ≠ "java/lang/invoke/MethodHandle" ∧ y.cls ≠ "java/lang/invoke/VarHandle") ∧ (parseMethodDescriptor y.desc).map (fun d => d.parameters.length) = some 2)
    (hdg : decode cc pc = .ok (.invokeinterface index count, 5)) (w1 : Cond.methodLink own index x ∈ lw_all) (hyl : (parseMethodDescriptor x.desc).map (fun d => d.parameters.length) = some 2) (hd : d' + 2 ≤ d) (hs8 : (rest.map fun v => v.category).sum ≤ 8)
    (kn : ∀ (r : Unit ⊕ Nat) (s1 : cS) (v : Option Value), rVx r = .inl v → GC X Y M (K r s1) s1 (pc + 5) lv (v.toList ++ rest)) (kx : ∀ (r : Unit ⊕ Nat) (s1 : cS) (x : Nat), rVx r = .inr x → GX X Y M (K r s1) s1 pc lv x) : GC X Y M (ob f K) s pc lv (.ref a2 :: .ref a1 :: .ref b :: rest) := by
  refine gc_made (As := [.ref a1, .ref a2]) (d' := d') hC hnL hk hk3 hsite hxI hσx hcode hplain (by omega) hdg w1 hyl rfl (Nat.le_refl _) (List.forall_mem_cons.mpr ⟨rfl, List.forall_mem_cons.mpr ⟨rfl, fun _ h => absurd h List.not_mem_nil⟩⟩) hd hs8 (fun r s1 hf => (hM r s1 hf).1) (fun r s1 hf => ?_) kn kx
  have hc := (hM r s1 hf).2
  intro ad H cell p e R z m a below meth c ls hI hzH hH hv q1 q3 q4 hl
  rw [hcap] at q4
  have hsl : cell.slots[0]? = some (.ref (ad a0)) := by
    rw [← Array.getElem?_toList, q4, List.map_cons]
    show some (tv ad (vr (cR s 901 b))) = _
    rw [hv0]; rfl
  have hvs : ∀ v ∈ (.ref a0 :: [.ref a1, .ref a2]), vOk s v := List.forall_mem_cons.mpr ⟨by show cK s a0 ≠ 0; rw [hka]; omega, hv⟩
  refine lv_aload_n hI.1 hI.2.1 bE0 rfl (hl.get rfl) ?_
  refine wm_getf hI hF hO0 q1 q3 hsl bE1 ?_
  refine lv_aload_n hI.1 hI.2.1 bE4 rfl (hl.get rfl) ?_
  refine lv_aload_n hI.1 hI.2.1 bE5 rfl (hl.get rfl) ?_
  exact wm_vret hI hzH (by cases r with
    | inl u => exact Or.inl rfl
    | inr q => exact Or.inr ⟨q, rfl⟩) bE9 (wm_callV hI hT hσ.1 hσ.2 hc hm hka hr w2 w3 w4 w5 hy rfl hl.1.1 (Nat.le_refl _) (Nat.le_refl _) bE6 hH hvs)
end SHP
end GCMD
