/-! checkcast, instanceof over the component's heap -/
section GCK
variable {α : Type} {X : gCx} {Y : cY} {M : cMd α} {F : Option (α × cS)} {s : cS} {pc d index a ci : Nat} {lv : List (Nat × Value)} {st : List Value} {own nm : String} {cc : ByteArray} {r : vw_C}
theorem cRecv {p : Program} {l : Launch} {e : Env} {R : Room} {z : State} {m : MethodId} {args : Array Value} {below : List Frame} {meth : Method} {c : Code} (hC : cOk (p, l, e, R, z, m, args, below, meth, c) Y own cc d) {ad : Nat → Nat} {H : Heap} (hH : cH Y ad s H) (hk : cK s a = ci + 1) (hr : ccl[ci]? = some r) : ∃ cell : Cell, H[ad a]? = some cell ∧ cell.vm.isStatics = false ∧ z.vm.findClass r.1 = some cell.cls := by
  obtain ⟨cell, q1, q2, q3, -⟩ := hH.obj hk hr
  exact ⟨cell, q1, by rw [q3]; rfl, by rw [q2]; exact (hC.2.1.1.1 ci _ hr).2.1⟩
theorem cRecvA {p : Program} {l : Launch} {e : Env} {R : Room} {z : State} {m : MethodId} {args : Array Value} {below : List Frame} {meth : Method} {c : Code} (hC : cOk (p, l, e, R, z, m, args, below, meth, c) Y own cc d) {ad : Nat → Nat} {H : Heap} (hH : cH Y ad s H) (hk : cK s a = 20) : ∃ cell : Cell, H[ad a]? = some cell ∧ cell.vm.isStatics = false ∧ z.vm.findClass "[I" = some cell.cls :=
  ⟨_, hH.arr hk (by omega) (by omega), rfl, va_nm_int ((hC.2.1.1.2 0 _ rfl).2)⟩
theorem gc_castE (hC : cOk X Y own cc d) (hk : cK s a = ci + 1) (hr : ccl[ci]? = some r) (w : Cond.classLink own index r.1 ∈ lw_all) (hdg : decode cc pc = .ok (.checkcast index, 3)) (kk : GC X Y M F s (pc + 3) lv (.ref a :: st)) : GC X Y M F s pc lv (.ref a :: st) := by
  refine gc_rd (st' := .ref a :: st) (fun ad H locs cells slots Q ls hH hR g k1 => ?_) (fun ad H hH hR => hR) kk
  obtain ⟨p, l, e, R, z, m, args, below, meth, c⟩ := X
  have hv := cRecv hC hH hk hr
  obtain ⟨⟨hx, hb, hown, hts, hlk⟩, -⟩ := hC
  exact va_castE (a := ad a) hx hb hown (hts _ w) hv hdg k1
theorem gc_castI (hC : cOk X Y own cc d) (hk : cK s a = 20) (w : Cond.classLink own index "[I" ∈ lw_all) (hdg : decode cc pc = .ok (.checkcast index, 3)) (kk : GC X Y M F s (pc + 3) lv (.ref a :: st)) : GC X Y M F s pc lv (.ref a :: st) := by
  refine gc_rd (st' := .ref a :: st) (fun ad H locs cells slots Q ls hH hR g k1 => ?_) (fun ad H hH hR => hR) kk
  obtain ⟨p, l, e, R, z, m, args, below, meth, c⟩ := X
  have hv := cRecvA hC hH hk
  obtain ⟨⟨hx, hb, hown, hts, hlk⟩, -⟩ := hC
  exact va_castE (a := ad a) hx hb hown (hts _ w) hv hdg k1
theorem gc_castY (hC : cOk X Y own cc d) (hk : cK s a = ci + 1) (hr : ccl[ci]? = some r) (w : Cond.classLink own index nm ∈ lw_all) (wc : Cond.castable r.1 nm ∈ lw_tbl) (hdg : decode cc pc = .ok (.checkcast index, 3)) (kk : GC X Y M F s (pc + 3) lv (.ref a :: st)) : GC X Y M F s pc lv (.ref a :: st) := by
  refine gc_rd (st' := .ref a :: st) (fun ad H locs cells slots Q ls hH hR g k1 => ?_) (fun ad H hH hR => hR) kk
  obtain ⟨p, l, e, R, z, m, args, below, meth, c⟩ := X
  have hv := cRecv hC hH hk hr
  obtain ⟨⟨hx, hb, hown, hts, hlk⟩, hB, -⟩ := hC
  exact va_castY (a := ad a) hx hb hown (hts _ w) (hB.2.1.2.2.2 _ _ wc) hv hdg k1
theorem gc_castN (hC : gOk X own cc) (hdg : decode cc pc = .ok (.checkcast index, 3)) (kk : GC X Y M F s (pc + 3) lv (.null :: st)) : GC X Y M F s pc lv (.null :: st) := by
  obtain ⟨p, l, e, R, z, m, args, below, meth, c⟩ := X
  exact gc_go (lv' := lv) (st' := .null :: st) (fun ad H locs cells slots Q ls g k => lv_castN hC.1 hC.2.1 hdg (k ls g)) (fun h => h) kk
theorem gc_instE (hC : cOk X Y own cc d) (hk : cK s a = ci + 1) (hr : ccl[ci]? = some r) (w : Cond.classLink own index r.1 ∈ lw_all) (hdg : decode cc pc = .ok (.instanceof index, 3)) (kk : GC X Y M F s (pc + 3) lv (.int 1 :: st)) : GC X Y M F s pc lv (.ref a :: st) := by
  refine gc_rd (st' := .int 1 :: st) (fun ad H locs cells slots Q ls hH hR g k1 => ?_) (fun ad H hH hR => hR.tail.cons trivial) kk
  obtain ⟨p, l, e, R, z, m, args, below, meth, c⟩ := X
  have hv := cRecv hC hH hk hr
  obtain ⟨⟨hx, hb, hown, hts, hlk⟩, -⟩ := hC
  exact va_instE (a := ad a) hx hb hown (hts _ w) hv hdg k1
theorem gc_instNo (hC : cOk X Y own cc d) (hk : cK s a = ci + 1) (hr : ccl[ci]? = some r) (w : Cond.classLink own index nm ∈ lw_all) (hn : (r.1, nm) ∈ cNcs) (hdg : decode cc pc = .ok (.instanceof index, 3)) (kk : GC X Y M F s (pc + 3) lv (.int 0 :: st)) : GC X Y M F s pc lv (.ref a :: st) := by
  refine gc_rd (st' := .int 0 :: st) (fun ad H locs cells slots Q ls hH hR g k1 => ?_) (fun ad H hH hR => hR.tail.cons trivial) kk
  obtain ⟨p, l, e, R, z, m, args, below, meth, c⟩ := X
  have hv := cRecv hC hH hk hr
  obtain ⟨⟨hx, hb, hown, hts, hlk⟩, hB, -⟩ := hC
  exact va_instNo (a := ad a) hx hb hown (hts _ w) (hB.2.2.2.2.1 _ hn) hv hdg k1
theorem gc_instNoI (hC : cOk X Y own cc d) (hk : cK s a = 20) (w : Cond.classLink own index nm ∈ lw_all) (hn : ("[I", nm) ∈ cNcs) (hdg : decode cc pc = .ok (.instanceof index, 3)) (kk : GC X Y M F s (pc + 3) lv (.int 0 :: st)) : GC X Y M F s pc lv (.ref a :: st) := by
  refine gc_rd (st' := .int 0 :: st) (fun ad H locs cells slots Q ls hH hR g k1 => ?_) (fun ad H hH hR => hR.tail.cons trivial) kk
  obtain ⟨p, l, e, R, z, m, args, below, meth, c⟩ := X
  have hv := cRecvA hC hH hk
  obtain ⟨⟨hx, hb, hown, hts, hlk⟩, hB, -⟩ := hC
  exact va_instNo (a := ad a) hx hb hown (hts _ w) (hB.2.2.2.2.1 _ hn) hv hdg k1
theorem gc_instN (hC : gOk X own cc) (hdg : decode cc pc = .ok (.instanceof index, 3)) (kk : GC X Y M F s (pc + 3) lv (.int 0 :: st)) : GC X Y M F s pc lv (.null :: st) := by
  obtain ⟨p, l, e, R, z, m, args, below, meth, c⟩ := X
  exact gc_go (lv' := lv) (st' := .int 0 :: st) (fun ad H locs cells slots Q ls g k => lv_instN hC.1 hC.2.1 hdg (k ls g)) (fun h => h.tail.cons trivial) kk
theorem gc_ifnullN (hC : gOk X own cc) {off : Int} {tgt : Nat} (hdg : decode cc pc = .ok (.ifnull off, 3)) (ht : (pc : Int) + off = (tgt : Int)) (k : GC X Y M F s tgt lv st) : GC X Y M F s pc lv (.null :: st) := by
  obtain ⟨p, l, e, R, z, m, args, below, meth, c⟩ := X
  exact gc_go (lv' := lv) (st' := st) (fun ad H locs cells slots Q ls g k => lv_ifnullN hC.1 hC.2.1 hdg ht (k ls g)) (fun h => h.tail) k
theorem gc_ifnullY (hC : gOk X own cc) {off : Int} {tgt : Nat} (hdg : decode cc pc = .ok (.ifnull off, 3)) (ht : (pc : Int) + off = (tgt : Int)) (k : GC X Y M F s (pc + 3) lv st) : GC X Y M F s pc lv (.ref a :: st) := by
  obtain ⟨p, l, e, R, z, m, args, below, meth, c⟩ := X
  exact gc_go (lv' := lv) (st' := st) (fun ad H locs cells slots Q ls g k => lv_ifnull hC.1 hC.2.1 hdg (k ls g)) (fun h => h.tail) k
theorem gc_ifnonnullN (hC : gOk X own cc) {off : Int} {tgt : Nat} (hdg : decode cc pc = .ok (.ifnonnull off, 3)) (ht : (pc : Int) + off = (tgt : Int)) (k : GC X Y M F s (pc + 3) lv st) : GC X Y M F s pc lv (.null :: st) := by
  obtain ⟨p, l, e, R, z, m, args, below, meth, c⟩ := X
  exact gc_go (lv' := lv) (st' := st) (fun ad H locs cells slots Q ls g k => lv_ifnonnullN hC.1 hC.2.1 hdg (k ls g)) (fun h => h.tail) k
theorem gc_ifnonnullY (hC : gOk X own cc) {off : Int} {tgt : Nat} (hdg : decode cc pc = .ok (.ifnonnull off, 3)) (ht : (pc : Int) + off = (tgt : Int)) (k : GC X Y M F s tgt lv st) : GC X Y M F s pc lv (.ref a :: st) := by
  obtain ⟨p, l, e, R, z, m, args, below, meth, c⟩ := X
  exact gc_go (lv' := lv) (st' := st) (fun ad H locs cells slots Q ls g k => lv_ifnonnull hC.1 hC.2.1 hdg ht (k ls g)) (fun h => h.tail) k
theorem gc_onul {x : Option Nat} {A : Option (α × cS)} {B : Nat → Option (α × cS)} (ka : x = none → GC X Y M A s pc lv st) (kb : ∀ y, x = some y → GC X Y M (B y) s pc lv st) : GC X Y M (onul x A B) s pc lv st := by
  cases x with
  | none => exact ka rfl
  | some y => exact kb y rfl
theorem gc_letvE {f : Int32 → Option (α × cS)} {x x' : Int32} (e : x = x') (k : ∀ y : Int32, y = x → GC X Y M (f y) s pc lv (.int y :: st)) : GC X Y M (letv x f) s pc lv (.int x' :: st) := by subst e; exact k x rfl
/-- static fields -/
theorem gc_gets (hC : cOk X Y own cc d) {C n ds ref : String} {v : Value} (w : Cond.fieldLink own index ref n ds ∈ lw_all) (hsame : ∀ x, (gSt X).fieldFound? C n ds = some x → (gSt X).fieldFound? ref n ds = some x) (hZ : ∀ (ad : Nat → Nat) (H : Heap), cH Y ad s H → va_Z C n ds (tv ad v) Y.2.2.2.1 (gSt X) Y.2.2.2.2) (hv : ∀ (ad : Nat → Nat) (H : Heap), cH Y ad s H → vOk s v) (hdg : decode cc pc = .ok (.getstatic index, 3)) (kk : GC X Y M F s (pc + 3) lv (v :: st)) : GC X Y M F s pc lv st := by
  refine gc_rdB (st' := v :: st) (fun ad H locs cells slots Q ls h1 h2 hH hR hS g k1 => ?_) (fun ad H hH hR => hR.cons (hv ad H hH)) kk
  have hz := hZ ad H hH
  obtain ⟨p, l, e, R, z, m, args, below, meth, c⟩ := X
  obtain ⟨⟨hx, hb, hown, hts, hlk⟩, hB, hO, -⟩ := hC
  exact va_gets hx hb (hz.kept (fun a ha _ => hO.2.1 a ha)) hS hown (hts _ w) hsame hdg k1
theorem gc_getsN (hC : cOk X Y own cc d) {C n ds ref host : String} {v : Value} (w : Cond.fieldLinkNest own index ref n ds host ∈ lw_tbl) (hsame : ∀ x, (gSt X).fieldFound? C n ds = some x → (gSt X).fieldFound? ref n ds = some x) (hZ : ∀ (ad : Nat → Nat) (H : Heap), cH Y ad s H → va_Z C n ds (tv ad v) Y.2.2.2.1 (gSt X) Y.2.2.2.2) (hv : ∀ (ad : Nat → Nat) (H : Heap), cH Y ad s H → vOk s v) (hdg : decode cc pc = .ok (.getstatic index, 3)) (kk : GC X Y M F s (pc + 3) lv (v :: st)) : GC X Y M F s pc lv st := by
  refine gc_rdB (st' := v :: st) (fun ad H locs cells slots Q ls h1 h2 hH hR hS g k1 => ?_) (fun ad H hH hR => hR.cons (hv ad H hH)) kk
  have hz := hZ ad H hH
  obtain ⟨p, l, e, R, z, m, args, below, meth, c⟩ := X
  obtain ⟨⟨hx, hb, hown, hts, hlk⟩, hB, hO, -⟩ := hC
  exact va_getsN hx hb (hz.kept (fun a ha _ => hO.2.1 a ha)) hS hown (va_Nw.use rfl (hB.2.1.1 _ _ _ _ _ _ w)) hsame hdg k1
theorem cH.old {ad : Nat → Nat} {H : Heap} (h : cH Y ad s H) {i : Nat} (hi : i < 300) (hk : cK s i ≠ 0) : ad i = Y.2.1 (1000 + i) := (h.2.2.2.1 i hk).1 hi
theorem cH.ov {ad : Nat → Nat} {H : Heap} (h : cH Y ad s H) {f i : Nat} (hi : i < 300) (hx : cR s f 299 = cOU Y i) : tv ad (vr (cR s f 299)) = cOV Y i ∧ vOk s (vr (cR s f 299)) := by
  have hf := h.1.1.2.2.2.2 f
  rw [hx] at hf ⊢
  unfold cOU at hf ⊢
  unfold cOV
  by_cases e : Y.2.1 (2000 + i) = 0
  · rw [if_pos e, if_pos e]; exact ⟨rfl, trivial⟩
  · rw [if_neg e, if_neg e]
    have hk := hf i (by rw [if_neg e])
    exact ⟨by show Value.ref (ad i) = _; rw [h.old hi hk], hk⟩
theorem gc_getUn (hC : cOk X Y own cc d) {ref : String} (w : Cond.fieldLink own index ref "UNASSIGNED_STACK" "[Ljava/lang/StackTraceElement;" ∈ lw_all) (hsame : ∀ x, (gSt X).fieldFound? "java/lang/Throwable" "UNASSIGNED_STACK" "[Ljava/lang/StackTraceElement;" = some x → (gSt X).fieldFound? ref "UNASSIGNED_STACK" "[Ljava/lang/StackTraceElement;" = some x) (hdg : decode cc pc = .ok (.getstatic index, 3)) (kk : GC X Y M F s (pc + 3) lv (vr (cR s 52 299) :: st)) : GC X Y M F s pc lv st :=
  gc_gets hC w hsame (fun ad H hH => by rw [(hH.ov (by omega) hH.1.1.2.2.1).1]; exact hC.2.1.2.2.2.2.2.2.2.1.1) (fun ad H hH => (hH.ov (by omega) hH.1.1.2.2.1).2) hdg kk
theorem gc_getSu (hC : cOk X Y own cc d) {ref : String} (w : Cond.fieldLink own index ref "SUPPRESSED_SENTINEL" "Ljava/util/List;" ∈ lw_all) (hsame : ∀ x, (gSt X).fieldFound? "java/lang/Throwable" "SUPPRESSED_SENTINEL" "Ljava/util/List;" = some x → (gSt X).fieldFound? ref "SUPPRESSED_SENTINEL" "Ljava/util/List;" = some x) (hdg : decode cc pc = .ok (.getstatic index, 3)) (kk : GC X Y M F s (pc + 3) lv (vr (cR s 53 299) :: st)) : GC X Y M F s pc lv st :=
  gc_gets hC w hsame (fun ad H hH => by rw [(hH.ov (by omega) hH.1.1.2.2.2.1).1]; exact hC.2.1.2.2.2.2.2.2.2.1.2.1) (fun ad H hH => (hH.ov (by omega) hH.1.1.2.2.2.1).2) hdg kk
end GCK
