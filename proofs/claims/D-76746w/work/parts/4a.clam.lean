/-! lambdas: their sites -/
theorem cMadeT {e : Setting} {z : State} {args : Array Value} {d c : ClassId} {σ : Lambda.Shape} {dk : Class} {T : Array FieldType} (h : Lambda.isMade e z.vm d σ c = true) (hd : z.vm.classes[d]? = some dk) (hO : (Cond.instantiable "java/lang/Object" 0).before args z = true) (hlay : ((σ.file dk.name).bind (layoutFields · 0)).map (·.2.1) = some T) : ∃ k, z.vm.classes[c]? = some k ∧ k.instanceTypes = T ∧ k.kind = .ordinary := by
  obtain ⟨dk', k, ok, tk, file, cf, object, iface, t, lay, methods, target, found, h1, h2, h3, h4, h5, h6, h7, h8, h9, h10, h11, h12, h13, ⟨-, hkind, -⟩, -, -, -, -, -, -, -, ⟨hty, -⟩, -⟩ := Lambda.isMade_spec h
  cases Option.some.inj (hd.symm.trans h1)
  obtain ⟨cO, kO, hfO, hkO, -, -, -, hsz⟩ := Cond.instantiable_spec hO
  cases Option.some.inj (hfO.symm.trans h5)
  cases Option.some.inj (hkO.symm.trans h7)
  have hemp : ok.instanceTypes = #[] := Array.eq_empty_of_size_eq_zero hsz
  rw [hsz] at h8
  rw [h4, Option.bind_some, h8, Option.map_some] at hlay
  refine ⟨k, h2, ?_, hkind⟩
  rw [hty, hemp, Option.some.inj hlay]
  simp
theorem cShapeS {cf : ClassFile} {index : Nat} {σ : Lambda.Shape} (h : Lambda.shapeOf? cf index = some σ) : ∃ (b nt : Nat) (desc : String) (site : MethodDescriptor), cf.constantPool[index]? = some (.invokeDynamic b nt) ∧ cf.constantPool.nameAndType? nt = some (σ.name, desc) ∧ parseMethodDescriptor desc = some site ∧ site.parameters = σ.captured := by
  unfold Lambda.shapeOf? at h
  split at h
  · rename_i b nt hc
    refine ⟨b, nt, ?_⟩
    obtain ⟨entries, -, h⟩ := Option.bind_eq_some_iff.mp h
    obtain ⟨bm, -, h⟩ := Option.bind_eq_some_iff.mp h
    split at h
    · obtain ⟨_, -, h⟩ := Option.bind_eq_some_iff.mp h
      generalize bm.bootstrapArguments = xa at h
      rcases xa with ⟨La⟩
      match La, h with
      | [], h => cases h
      | [_], h => cases h
      | [_, _], h => cases h
      | _ :: _ :: _ :: _ :: _, h => cases h
      | [a, b, c], h =>
        change (match cf.constantPool[a]? with
          | some (.methodType d0) => _
          | _ => none) = some σ at h
        split at h
        · split at h
          · split at h
            · obtain ⟨⟨name, desc⟩, hnt, h⟩ := Option.bind_eq_some_iff.mp h
              obtain ⟨site, hsite, h⟩ := Option.bind_eq_some_iff.mp h
              split at h
              · obtain ⟨⟨x1, x2, x3, x4⟩, -, h⟩ := Option.bind_eq_some_iff.mp h
                obtain ⟨y1, -, h⟩ := Option.bind_eq_some_iff.mp h
                obtain ⟨y2, -, h⟩ := Option.bind_eq_some_iff.mp h
                obtain ⟨y3, -, h⟩ := Option.bind_eq_some_iff.mp h
                obtain ⟨y4, -, h⟩ := Option.bind_eq_some_iff.mp h
                obtain ⟨y5, -, h⟩ := Option.bind_eq_some_iff.mp h
                cases h
                exact ⟨desc, site, hc, hnt, hsite, rfl⟩
              · cases h
            · cases h
          · cases h
        · cases h
    · cases h
  · cases h
section GCLA
variable {α : Type} {X : gCx} {Y : cY} {M : cMd α} {F : Option (α × cS)} {s : cS} {pc d index k : Nat} {lv : List (Nat × Value)} {st : List Value} {own : String} {cc : ByteArray} {x : MethodName} {σ : Lambda.Shape}
set_option maxRecDepth 100000 in
/-- nothing captured: the one object -/
theorem gc_lamC (hC : cOk X Y own cc d) (hnL : gLoc X = M.1) (hmd : (gSt X).methodNamed? x = some (gMe X)) (hsite : (k, Cond.lambdaSite x pc index σ) ∈ cSites) (hcap : σ.captured = []) (hk30 : k < 70) (hk0 : cK s (230 + k) = k) (hkp : k ≠ 0) (hdg : decode cc pc = .ok (.invokedynamic index, 5)) (hs : (st.map fun v => v.category).sum ≤ 8) (kk : GC X Y M F s (pc + 5) lv (.ref (230 + k) :: st)) : GC X Y M F s pc lv st := by
  refine gc_rdB (st' := .ref (230 + k) :: st) (fun ad H locs cells slots Q ls hc1 hc2 hH hR hS g k1 => ?_) (fun ad H hH hR => hR.cons (by show cK s (230 + k) ≠ 0; rw [hk0]; exact hkp)) kk
  have ho := hH.old (i := 230 + k) (by omega) (by rw [hk0]; exact hkp)
  have e0 : 1000 + (230 + k) = 1230 + k := by omega
  rw [e0] at ho
  obtain ⟨p, l, e, R, z, m, args, below, meth, c⟩ := X
  obtain ⟨⟨hx, hb, hown, hts, hlk⟩, hB, hO, hfr, hlo, hl, hA1, hA2⟩ := hC
  have hlo : 64 * d + 10400 ≤ R.locals := hlo
  obtain ⟨m', kc, cf, i0, p0, li, h1, h2, h3, h4, h5, h6, h7, h8⟩ := hB.2.2.2.2.2.2.1 _ hsite x pc index σ rfl
  cases Option.some.inj (h1.symm.trans hmd)
  rcases h8 with ⟨rfl, -⟩ | ⟨-, hne⟩
  · intro T hT XS
    obtain ⟨t, a1, b1⟩ := k1 T hT XS
    have hw : e.platform.lambdaLinkWords = 3072 := by rw [XS.admits.platform]
    refine ⟨t, XS.lambdaConstant hx (g := F0 m pc ls (st.map (tv ad))) rfl (g.1.1.trans hnL.symm) (by rw [hb]; exact hdg) h2 h5 (by
      show 2 * 0 + ((st.map (tv ad)).map fun v => v.category).sum + e.platform.lambdaLinkWords ≤ R.locals
      rw [cat_map, hw]; omega) ?_, b1⟩
    have e1 : (Value.ref (230 + k) :: st).map (tv ad) = .ref (Y.2.1 (1230 + k)) :: st.map (tv ad) := by
      show Value.ref (ad (230 + k)) :: _ = _
      rw [ho]
    rw [e1] at a1
    exact a1
  · exact absurd hcap hne
/-- something new, its fields given -/
theorem gc_alG {s1 : cS} {w pc' : Nat} {st' : List Value} (hC : cOk X Y own cc d) (e1 : cn s1 = cn s + 1) (e2 : cz s1 = cz s + w) (eK : ∀ b, b ≠ cn s → cK s1 b = cK s b) (eL : ∀ b, b ≠ cn s → cL s1 b = cL s b) (eV : ∀ g b, b ≠ cn s → cVal s1 g b = cVal s g b) (eR : ∀ g b u, b ≠ cn s → cR s1 g b = some u → cR s g b = some u) (hk0 : cK s1 (cn s) ≠ 0) (hk9 : cK s1 (cn s) ≠ 99) (hnew : cRf s lv st → ∀ f u, cR s1 f (cn s) = some u → cK s u ≠ 0)
    (row : ∀ (ad : Nat → Nat) (H : Heap) (locs : List Loc) (cells slots : Nat) (Q : State → Prop) (ls : Array Slot), cH Y ad s H → cRf s lv st → gHas ls M.1 (lmap ad lv) → cells + 1 ≤ (gRm X).cells → slots + w ≤ (gRm X).slots → (∀ H1 : Heap, H1.size = H.size + 1 → (∀ q, q < H.size → H1[q]? = H[q]?) → cAt Y (adN ad (cn s) H.size) s1 (cn s) H1 → gW X H1 locs (cells + 1) (slots + w) Q (F0 (gMe X) pc' ls (.ref H.size :: st'.map (tv ad)))) → gW X H locs cells slots Q (F0 (gMe X) pc ls (st.map (tv ad))))
    (hst : ∀ v ∈ st', v ∈ st) (kk : GC X Y M F s1 pc' lv (.ref (cn s) :: st')) : GC X Y M F s pc lv st := by
  intro r t' h
  obtain ⟨⟨h1, h1', h3⟩, h2⟩ := kk r t' h
  rw [e1] at h1
  rw [e2] at h1'
  refine ⟨⟨by omega, by omega, fun u hu => by rw [h3 u (by rw [e1]; omega)]; exact eK u (by omega)⟩, fun ad mc ms cells slots H locs ls a b c dd hH hR g i hS l => ?_⟩
  refine row ad H locs cells slots _ ls hH hR l (by omega) (by omega) fun H1 z1 o1 hat => ?_
  have hz0 : cK s (cn s) = 0 := hH.1.2 _ (Nat.le_refl _)
  have hAx : Y.2.2.2.1 H.size := hC.2.2.2.2.2.2.1 _ hS.1
  have hH1 : cH Y (adN ad (cn s) H.size) s1 H1 := by
    refine cH_grow hH eK eL eV eR (by rw [e1]; omega) hk0 (by omega) (by omega) o1 (fun _ => ⟨Nat.le_refl _, hAx⟩) (fun f u hu => Or.inr ?_) (fun q => absurd q hk9) hat
    have h5 := hnew hR f u hu
    rw [eK u (fun e => by rw [e] at h5; exact h5 hz0)]
    exact h5
  have hR1 : cRf s1 lv (.ref (cn s) :: st') := by
    have key : ∀ v, vOk s v → vOk s1 v := fun v hv => by
      cases v with
      | ref u =>
        show cK s1 u ≠ 0
        by_cases e : u = cn s
        · rw [e]; exact hk0
        · rw [eK u e]; exact hv
      | _ => trivial
    refine ⟨fun q hq => key _ (hR.1 q hq), fun v hv => ?_⟩
    rcases List.mem_cons.mp hv with e | e
    · rw [e]; exact hk0
    · exact key _ (hR.2 v (hst v e))
  have hl1 : lmap (adN ad (cn s) H.size) lv = lmap ad lv := lmap_adN hR.1 hz0
  have hs1 : (Value.ref (cn s) :: st').map (tv (adN ad (cn s) H.size)) = .ref H.size :: st'.map (tv ad) := by
    rw [List.map_cons, smap_adN (fun v hv => hR.2 v (hst v hv)) hz0]
    show Value.ref (adN ad (cn s) H.size (cn s)) :: _ = _
    rw [adN_eq]
  rw [← hs1]
  refine h2 (adN ad (cn s) H.size) mc ms (cells + 1) (slots + w) H1 locs ls a b (by rw [e1]; omega) (by rw [e2]; omega) hH1 hR1 (by rw [e1]; omega) (fun u hu => ?_) ⟨by have := hS.1; omega, fun q q1 q2 => (o1 q (Nat.lt_of_lt_of_le q1 hS.1)).trans (hS.2.1 q q1 q2), hS.2.2⟩ (by rw [hl1]; exact l)
  rw [adN_ne (by omega)]
  exact i u hu
/-- a lambda with one value captured: an int -/
def sLI (s : cS) (k : Nat) (v : Int32) : cS := sI (sN s k 0 1) 900 (cn s) v
/-- an object -/
def sLR (s : cS) (k : Nat) (a : Nat) : cS := sR (sN s k 0 1) 901 (cn s) (some a)
theorem cMo_sLI {v : Int32} : cMo s (sLI s k v) := cMo_sN.trans cMo_sI
theorem cMo_sLR {a : Nat} : cMo s (sLR s k a) := cMo_sN.trans cMo_sR
set_option maxRecDepth 100000 in
theorem gc_lamI (hC : cOk X Y own cc d) (hnL : gLoc X = M.1) (hmd : (gSt X).methodNamed? x = some (gMe X)) (hsite : (k, Cond.lambdaSite x pc index σ) ∈ cSites) {v : Int32} (hcap : σ.captured = [.int]) (hcp : cCap k = [900]) (hfile : ((σ.file x.cls).bind (layoutFields · 0)).map (·.2.1) = some #[.int]) (hO0 : Cond.instantiable "java/lang/Object" 0 ∈ lw_all) (hk30 : 30 ≤ k ∧ k < 70) (hdg : decode cc pc = .ok (.invokedynamic index, 5)) (hs : (st.map fun v => v.category).sum ≤ 8) (kk : GC X Y M F (sLI s k v) (pc + 5) lv (.ref (cn s) :: st)) : GC X Y M F s pc lv (.int v :: st) := by
  have hc0 : cK (sLI s k v) (cn s) = k := if_pos rfl
  refine gc_alG (s1 := sLI s k v) (w := 1) hC rfl rfl (fun b hb => if_neg hb) (fun b hb => if_neg hb) (fun g b hb => ?_) (fun g b u hb hu => ?_) (by rw [hc0]; omega) (by rw [hc0]; omega) (fun _ f u hu => ?_) (fun ad H locs cells slots Q ls hH hR g h1 h2 k1 => ?_) (fun v hv => List.mem_cons_of_mem _ hv) kk
  · unfold sLI
    rw [cVal_sI, if_neg (fun q => hb q.2), cVal_sN hb]
  · have : cR (sLI s k v) g b = cR s g b := if_neg hb
    rw [← this]; exact hu
  · have : cR (sLI s k v) f (cn s) = none := if_pos rfl
    rw [this] at hu; cases hu
  · obtain ⟨p, l, e, R, z, m, args, below, meth, c⟩ := X
    obtain ⟨⟨hx, hb, hown, hts, hlk⟩, hB, hO, hfr, hlo, hl, hA1, hA2⟩ := hC
    have hlo : 64 * d + 10400 ≤ R.locals := hlo
    obtain ⟨m', kc, cf, i0, p0, li, g1, g2, g3, g4, g5, g6, g7, g8⟩ := hB.2.2.2.2.2.2.1 _ hsite x pc index σ rfl
    cases Option.some.inj (g1.symm.trans hmd)
    rcases g8 with ⟨-, hne⟩ | ⟨rfl, -⟩
    · rw [hcap] at hne; cases hne
    obtain ⟨kd, hkd, hnd⟩ := className_of_methodNamed g1
    cases Option.some.inj (g2.symm.trans hkd)
    obtain ⟨kL, j1, j2, j3⟩ := cMadeT g6 g2 (hts _ hO0) (T := #[.int]) (by rw [hnd]; exact hfile)
    obtain ⟨bsm, nt, desc, site, n1, n2, n3, n4⟩ := cShapeS g4
    intro T hT XS
    have hw : e.platform.lambdaLinkWords = 3072 := by rw [XS.admits.platform]
    have j1 : z.vm.classes[Y.2.2.1 k]? = some kL := j1
    have hfit : z.fitsSlot (Y.2.2.1 k) .none 0 (.int v) = true := by
      unfold State.fitsSlot State.slotType?
      simp only [j1, Option.bind_eq_bind, Option.bind_some, j3, j2]
      rfl
    have hz : ((kL.instanceTypes.toList.zip [Value.int v]).map fun (t, v) => narrow t v) = [.int v] := by rw [j2]; rfl
    obtain ⟨X₁, st1⟩ := XS.lambdaMakes hx (g := F0 m pc ls ((Value.int v :: st).map (tv ad))) rfl (g.1.1.trans hnL.symm) (by rw [hb]; exact hdg) (vals := [.int v]) (rest := st.map (tv ad)) g2 g5 g3 n1 n2 (parseLong_of_parse n3) (by rw [n4, hcap]; rfl) rfl j1 (by
      show 2 * 0 + ((Value.int v :: st.map (tv ad)).map fun v => v.category).sum + e.platform.lambdaLinkWords ≤ R.locals
      rw [hw, List.map_cons, List.sum_cons, cat_map]
      show 2 * 0 + (1 + _) + 3072 ≤ R.locals
      omega) h1 (by rw [hz]; exact h2) (fun i w hw => by
        rw [hz] at hw
        have hi : i = 0 := by
          have := (Array.getElem?_eq_some_iff.mp hw).1
          simp at this; omega
        subst hi
        cases hw
        exact hfit)
    rw [hz] at X₁ st1
    obtain ⟨t, a1, b1⟩ := k1 _ (by show (T.heap.push _).size = H.size + 1; rw [Array.size_push, hT]) (fun q hq => by show (T.heap.push _)[q]? = H[q]?; rw [Array.getElem?_push, hT, if_neg (Nat.ne_of_lt hq)]) (by
      unfold cAt
      rw [hc0, if_neg (by omega), if_neg (by omega), if_neg (by omega), adN_eq, hcp]
      refine ⟨_, by show (T.heap.push _)[H.size]? = _; rw [← hT, Array.getElem?_push_size], rfl, rfl, ?_⟩
      have hv : cVal (sLI s k v) 900 (cn s) = .int v := by unfold sLI; rw [cVal_sI, if_pos ⟨rfl, rfl⟩]; rfl
      show [Value.int v] = [tv _ (cVal (sLI s k v) 900 (cn s))]
      rw [hv]; rfl) _ rfl X₁
    refine ⟨t, st1 t ?_, b1⟩
    have e9 : T.heap.size = H.size := by rw [hT]
    rw [e9]
    exact a1
set_option maxRecDepth 100000 in
theorem gc_lamR (hC : cOk X Y own cc d) (hnL : gLoc X = M.1) (hmd : (gSt X).methodNamed? x = some (gMe X)) (hsite : (k, Cond.lambdaSite x pc index σ) ∈ cSites) {v : Nat} {nm : String} (hcap : σ.captured = [.object nm]) (hcp : cCap k = [901]) (hfile : ((σ.file x.cls).bind (layoutFields · 0)).map (·.2.1) = some #[.object nm]) (hO0 : Cond.instantiable "java/lang/Object" 0 ∈ lw_all) (hk30 : 30 ≤ k ∧ k < 70) (hdg : decode cc pc = .ok (.invokedynamic index, 5)) (hs : (st.map fun v => v.category).sum ≤ 8) (kk : GC X Y M F (sLR s k v) (pc + 5) lv (.ref (cn s) :: st)) : GC X Y M F s pc lv (.ref v :: st) := by
  have hc0 : cK (sLR s k v) (cn s) = k := if_pos rfl
  refine gc_alG (s1 := sLR s k v) (w := 1) hC rfl rfl (fun b hb => if_neg hb) (fun b hb => if_neg hb) (fun g b hb => ?_) (fun g b u hb hu => ?_) (by rw [hc0]; omega) (by rw [hc0]; omega) (fun hR0 f u hu => ?_) (fun ad H locs cells slots Q ls hH hR g h1 h2 k1 => ?_) (fun v hv => List.mem_cons_of_mem _ hv) kk
  · unfold sLR
    rw [cVal_sR, if_neg (fun q => hb q.2), cVal_sN hb]
  · have : cR (sLR s k v) g b = cR (sN s k 0 1) g b := if_neg (fun q => hb q.2)
    rw [this] at hu
    have h2 : cR (sN s k 0 1) g b = cR s g b := if_neg hb
    rw [← h2]; exact hu
  · have h1 : cR (sLR s k v) f (cn s) = if f = 901 ∧ cn s = cn s then some v else cR (sN s k 0 1) f (cn s) := rfl
    rw [h1] at hu
    split at hu
    · cases hu; exact hR0.head
    · have h2 : cR (sN s k 0 1) f (cn s) = none := if_pos rfl
      rw [h2] at hu; cases hu
  · obtain ⟨p, l, e, R, z, m, args, below, meth, c⟩ := X
    obtain ⟨⟨hx, hb, hown, hts, hlk⟩, hB, hO, hfr, hlo, hl, hA1, hA2⟩ := hC
    have hlo : 64 * d + 10400 ≤ R.locals := hlo
    obtain ⟨m', kc, cf, i0, p0, li, g1, g2, g3, g4, g5, g6, g7, g8⟩ := hB.2.2.2.2.2.2.1 _ hsite x pc index σ rfl
    cases Option.some.inj (g1.symm.trans hmd)
    rcases g8 with ⟨-, hne⟩ | ⟨rfl, -⟩
    · rw [hcap] at hne; cases hne
    obtain ⟨kd, hkd, hnd⟩ := className_of_methodNamed g1
    cases Option.some.inj (g2.symm.trans hkd)
    obtain ⟨kL, j1, j2, j3⟩ := cMadeT g6 g2 (hts _ hO0) (T := #[.object nm]) (by rw [hnd]; exact hfile)
    obtain ⟨bsm, nt, desc, site, n1, n2, n3, n4⟩ := cShapeS g4
    intro T hT XS
    have hw : e.platform.lambdaLinkWords = 3072 := by rw [XS.admits.platform]
    have j1 : z.vm.classes[Y.2.2.1 k]? = some kL := j1
    have hfit : z.fitsSlot (Y.2.2.1 k) .none 0 (.ref (ad v)) = true := by
      unfold State.fitsSlot State.slotType?
      simp only [j1, Option.bind_eq_bind, Option.bind_some, j3, j2]
      rfl
    have hz : ((kL.instanceTypes.toList.zip [Value.ref (ad v)]).map fun (t, v) => narrow t v) = [.ref (ad v)] := by rw [j2]; rfl
    obtain ⟨X₁, st1⟩ := XS.lambdaMakes hx (g := F0 m pc ls ((Value.ref v :: st).map (tv ad))) rfl (g.1.1.trans hnL.symm) (by rw [hb]; exact hdg) (vals := [.ref (ad v)]) (rest := st.map (tv ad)) g2 g5 g3 n1 n2 (parseLong_of_parse n3) (by rw [n4, hcap]; rfl) rfl j1 (by
      show 2 * 0 + ((Value.ref (ad v) :: st.map (tv ad)).map fun v => v.category).sum + e.platform.lambdaLinkWords ≤ R.locals
      rw [hw, List.map_cons, List.sum_cons, cat_map]
      show 2 * 0 + (1 + _) + 3072 ≤ R.locals
      omega) h1 (by rw [hz]; exact h2) (fun i w hw => by
        rw [hz] at hw
        have hi : i = 0 := by
          have := (Array.getElem?_eq_some_iff.mp hw).1
          simp at this; omega
        subst hi
        cases hw
        exact hfit)
    rw [hz] at X₁ st1
    obtain ⟨t, a1, b1⟩ := k1 _ (by show (T.heap.push _).size = H.size + 1; rw [Array.size_push, hT]) (fun q hq => by show (T.heap.push _)[q]? = H[q]?; rw [Array.getElem?_push, hT, if_neg (Nat.ne_of_lt hq)]) (by
      unfold cAt
      rw [hc0, if_neg (by omega), if_neg (by omega), if_neg (by omega), adN_eq, hcp]
      refine ⟨_, by show (T.heap.push _)[H.size]? = _; rw [← hT, Array.getElem?_push_size], rfl, rfl, ?_⟩
      have hv : cVal (sLR s k v) 901 (cn s) = .ref v := by unfold sLR; rw [cVal_sR, if_pos ⟨rfl, rfl⟩]; rfl
      have hvn : v ≠ cn s := fun e => hR.head (by rw [e]; exact hH.1.2 _ (Nat.le_refl _))
      show [Value.ref (ad v)] = [tv _ (cVal (sLR s k v) 901 (cn s))]
      rw [hv]
      show _ = [Value.ref (adN ad (cn s) H.size v)]
      rw [adN_ne hvn]) _ rfl X₁
    refine ⟨t, st1 t ?_, b1⟩
    have e9 : T.heap.size = H.size := by rw [hT]
    rw [e9]
    exact a1
end GCLA
