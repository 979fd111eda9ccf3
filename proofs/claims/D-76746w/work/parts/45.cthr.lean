/-! the machine's own exceptions: from the throw to the handler -/
theorem cWd_at {L : List Cond} (h : cWd L = true) {args : Array Value} {z : State} (hts : ∀ w ∈ lw_all, w.before args z = true) (hN : cNest z) : ∀ w ∈ L, w.before args z = true := by
  intro w hw
  have h1 := List.all_eq_true.mp h w hw
  rcases Bool.or_eq_true_iff.mp h1 with h2 | h2
  · exact hts w (of_decide_eq_true h2)
  · obtain ⟨h3, h4⟩ := Bool.and_eq_true_iff.mp h2
    have h3 := of_decide_eq_true h3
    cases w <;> first | exact va_Nw.use rfl (hN.2.2.1 _ h3) | exact va_Nw.use rfl (hN.2.2.2 _ _ h3) | cases h4
def gNote (X : gCx) (H : Heap) (locs : List Loc) (cells slots : Nat) (Q : State → Prop) (g : JFrame) (E text : String) : Prop := match X with
  | (p, l, e, R, s, m, args, below, meth, c) => vx_Note p l e R s m args below meth c H locs cells slots Q g E text
def gNoteN (X : gCx) (H : Heap) (locs : List Loc) (cells slots : Nat) (Q : State → Prop) (g : JFrame) : Prop := match X with
  | (p, l, e, R, s, m, args, below, meth, c) => vx_NoteN p l e R s m args below meth c H locs cells slots Q g
/-- the machine throws an E here, with a text of at most nb bytes -/
def GN {α : Type} (X : gCx) (Y : cY) (M : cMd α) (F : Option (α × cS)) (s : cS) (pc : Nat) (lv : List (Nat × Value)) (E : String) (nb : Nat) : Prop :=
  ∀ (r : α) (s' : cS), F = some (r, s') → cMo s s' ∧
    ∀ (ad : Nat → Nat) (mc ms cells slots : Nat) (H : Heap) (locs : List Loc) (ls : Array Slot) (rest : List Value) (text : String), mc ≤ (gRm X).cells → ms ≤ (gRm X).slots → cells + cn s' ≤ mc + cn s → slots + cz s' ≤ ms + cz s →
      cH Y ad s H → (∀ q ∈ lv, vOk s q.2) → cn M.2.1 ≤ cn s → (∀ a, a < cn M.2.1 → ad a = M.2.2.1 a) → va_S Y.2.2.2.1 (gSt X).heap H locs → gHas ls M.1 (lmap ad lv) → (rest.map fun v => v.category).sum ≤ 100 → (text == notModelled) = false → (stringBytes (stringToUtf16 text)).size ≤ nb →
      gNote X H locs cells slots (M.2.2.2 r s' mc ms) (F0 (gMe X) pc ls rest) E text
/-- the machine throws a NullPointerException here -/
def GNN {α : Type} (X : gCx) (Y : cY) (M : cMd α) (F : Option (α × cS)) (s : cS) (pc : Nat) (lv : List (Nat × Value)) : Prop :=
  ∀ (r : α) (s' : cS), F = some (r, s') → cMo s s' ∧
    ∀ (ad : Nat → Nat) (mc ms cells slots : Nat) (H : Heap) (locs : List Loc) (ls : Array Slot) (rest : List Value), mc ≤ (gRm X).cells → ms ≤ (gRm X).slots → cells + cn s' ≤ mc + cn s → slots + cz s' ≤ ms + cz s →
      cH Y ad s H → (∀ q ∈ lv, vOk s q.2) → cn M.2.1 ≤ cn s → (∀ a, a < cn M.2.1 → ad a = M.2.2.1 a) → va_S Y.2.2.2.1 (gSt X).heap H locs → gHas ls M.1 (lmap ad lv) → (rest.map fun v => v.category).sum ≤ 100 →
      gNoteN X H locs cells slots (M.2.2.2 r s' mc ms) (F0 (gMe X) pc ls rest)
theorem cH_sX {Y : cY} {ad : Nat → Nat} {s : cS} {H H1 : Heap} {x k w : Nat} (h : cH Y ad s H) (hk : 0 < k) (hx : x < H1.size) (hz : H.size ≤ H1.size) (ho : ∀ q, q < H.size → H1[q]? = H[q]?) : cH Y (adN ad (cn s) x) (sX s k w) H1 := by
  have hc0 : cK (sX s k w) (cn s) = 99 := if_pos rfl
  have hz0 : cK s (cn s) = 0 := h.1.2 _ (Nat.le_refl _)
  have hRn : ∀ f, cR (sX s k w) f (cn s) = none := fun f => if_pos rfl
  refine cH_grow h (fun b hb => if_neg hb) (fun b hb => rfl) (fun g b hb => ?_) (fun g b u hb hu => ?_) (Nat.lt_add_of_pos_right hk) (by rw [hc0]; decide) hx hz ho (fun q => absurd hc0 q) (fun f u hu => Or.inl hc0) (fun _ f => hRn f) (by unfold cAt; rw [if_pos hc0]; trivial)
  · have h1 : cR (sX s k w) g b = cR s g b := if_neg hb
    unfold cVal
    rw [h1]; rfl
  · have h1 : cR (sX s k w) g b = cR s g b := if_neg hb
    rw [← h1]; exact hu
section GCT
variable {α : Type} {X : gCx} {Y : cY} {M : cMd α} {F : Option (α × cS)} {s : cS} {pc d index a : Nat} {lv : List (Nat × Value)} {st : List Value} {own nm : String} {cc : ByteArray}
/-- the handler's start: the machine's exception on the stack -/
theorem gn_at {k w : Nat} (hk : 0 < k) {hp : Nat} (hC : cOk X Y own cc d) (kk : GC X Y M F (sX s k w) hp lv [.ref (cn s)]) : ∀ (r : α) (s' : cS), F = some (r, s') → cMo s s' ∧
    ∀ (ad : Nat → Nat) (mc ms cells slots : Nat) (H H1 : Heap) (locs : List Loc) (ls : Array Slot) (q9 : Nat), mc ≤ (gRm X).cells → ms ≤ (gRm X).slots → cells + cn s' ≤ mc + cn s → slots + cz s' ≤ ms + cz s →
      cH Y ad s H → (∀ q ∈ lv, vOk s q.2) → cn M.2.1 ≤ cn s → (∀ a, a < cn M.2.1 → ad a = M.2.2.1 a) → va_S Y.2.2.2.1 (gSt X).heap H1 locs → gHas ls M.1 (lmap ad lv) → q9 < H1.size → H.size ≤ H1.size → (∀ q, q < H.size → H1[q]? = H[q]?) →
      cells + k ≤ (gRm X).cells ∧ slots + w ≤ (gRm X).slots ∧ gW X H1 locs (cells + k) (slots + w) (M.2.2.2 r s' mc ms) (F0 (gMe X) hp ls [.ref q9]) := by
  intro r s' h
  obtain ⟨h1, h2⟩ := kk r s' h
  have e1 : cn (sX s k w) = cn s + k := rfl
  have e2 : cz (sX s k w) = cz s + w := rfl
  have m1 := h1.1
  have m2 := h1.2.1
  rw [e1] at m1
  rw [e2] at m2
  refine ⟨cMo_sX.trans h1, fun ad mc ms cells slots H H1 locs ls q9 b1 b2 b3 b4 hH hR i1 i2 hS l hq hz ho => ⟨by omega, by omega, ?_⟩⟩
  have hz0 : cK s (cn s) = 0 := hH.1.2 _ (Nat.le_refl _)
  have hc0 : cK (sX s k w) (cn s) = 99 := if_pos rfl
  have hl1 : lmap (adN ad (cn s) q9) lv = lmap ad lv := lmap_adN hR hz0
  have key : ∀ v, vOk s v → vOk (sX s k w) v := fun v hv => by
    cases v with
    | ref u =>
      show cK (sX s k w) u ≠ 0
      by_cases e : u = cn s
      · rw [e, hc0]; decide
      · have : cK (sX s k w) u = cK s u := if_neg e
        rw [this]; exact hv
    | _ => trivial
  have hh := h2 (adN ad (cn s) q9) mc ms (cells + k) (slots + w) H1 locs ls b1 b2 (by rw [e1]; omega) (by rw [e2]; omega) (cH_sX hH hk hq hz ho) ⟨fun q hq => key _ (hR q hq), fun v hv => by rcases List.mem_singleton.mp hv with rfl; show cK (sX s k w) (cn s) ≠ 0; rw [hc0]; decide⟩ (by rw [e1]; omega) (fun u hu => by rw [adN_ne (by omega)]; exact i2 u hu) hS (by rw [hl1]; exact l)
  have e3 : [Value.ref (cn s)].map (tv (adN ad (cn s) q9)) = [.ref q9] := by
    show [Value.ref (adN ad (cn s) q9 (cn s))] = _
    rw [adN_eq]
  rw [e3] at hh
  exact hh
theorem gn_catch {E : String} {names : List String} {nb : Nat} (hC : cOk X Y own cc d) (hnL : gLoc X = M.1) (hw : cVmOk E names) (hnb : nb ≤ 1000) (pre : List ExceptionTableEntry) (y : ExceptionTableEntry) (suf : List ExceptionTableEntry) (hsplit : gTab X = pre ++ y :: suf) (hpass : ∀ z ∈ pre, covers z pc = false ∨ (z.catchType ≠ 0 ∧ ∃ nm : String, Cond.classLink own z.catchType nm ∈ lw_all ∧ (E, nm) ∈ cNcs)) (hcov : covers y pc = true) (h0 : y.catchType ≠ 0) (hlink : Cond.classLink own y.catchType E ∈ lw_all) (hcast : Cond.castable E E ∈ lw_tbl) {hp : Nat} (hhp : y.handlerPc = hp)
    (kk : GC X Y M F (sX s 3 (nb + 10)) hp lv [.ref (cn s)]) : GN X Y M F s pc lv E nb := by
  subst hhp
  intro r s' h
  obtain ⟨h1, h2⟩ := gn_at (by omega) hC kk r s' h
  refine ⟨h1, fun ad mc ms cells slots H locs ls rest text b1 b2 b3 b4 hH hR i1 i2 hS l hrest ht1 ht2 => ?_⟩
  obtain ⟨w1, w2, w3, w4, w5, w6, w7⟩ := hw
  obtain ⟨p, la, e, R, z, m, args, below, meth, c⟩ := X
  obtain ⟨⟨hx, hb, hown, hts, hlk⟩, hB, hO, hfr, hlo, hl, hA1, hA2⟩ := hC
  have hfr : d + 16 ≤ R.frames := hfr
  have hlo : 64 * d + 10400 ≤ R.locals := hlo
  obtain ⟨z1, z2, -, -, -, z3, z4⟩ := hB.2.2.2.2.2.2.2.1
  have hk := fun (C n ds : String) (v : Value) (hz : va_Z C n ds v Y.2.2.2.1 z Y.2.2.2.2) => va_Z.kept hz (fun a ha _ => hO.2.1 a ha)
  have hq0 : ∀ (C n ds : String) (i : Nat), va_Z C n ds (cOV Y i) Y.2.2.2.1 z z.heap → va_Zq C n ds Y.2.2.2.1 z z.heap := fun C n ds i hz => by
    unfold cOV at hz
    split at hz
    · exact Or.inl hz
    · exact Or.inr ⟨_, hz⟩
  -- the room that the handler leaves
  have hroom : cells + 3 ≤ R.cells ∧ slots + (nb + 10) ≤ R.slots := by
    have h3 := (kk r s' h).1
    have m1 := h3.1
    have m2 := h3.2.1
    have e1 : cn (sX s 3 (nb + 10)) = cn s + 3 := rfl
    have e2 : cz (sX s 3 (nb + 10)) = cz s + (nb + 10) := rfl
    rw [e1] at m1
    rw [e2] at m2
    have b1 : mc ≤ R.cells := b1
    have b2 : ms ≤ R.slots := b2
    exact ⟨by omega, by omega⟩
  refine vx_vm (A := Y.2.2.2.1) (names := names) (nb := nb) hx hl w3 w4 w5 w6 (cWd_at w1 hts hB.2.1) w2 ⟨hq0 _ _ _ 257 (hk _ _ _ _ z1), z3.kept (fun a ha _ => hO.2.1 a ha)⟩ ⟨hq0 _ _ _ 258 (hk _ _ _ _ z2), z4.kept (fun a ha _ => hO.2.1 a ha)⟩ hS (l.1.1.trans hnL.symm) ht1 ht2 hnb (by omega) (by omega) (by omega) hroom.1 hroom.2 hlk ?_
  intro H1 q9 ce g1 g2 g3 g4 g5 g6
  obtain ⟨-, -, hh⟩ := h2 ad mc ms cells slots H H1 locs ls q9 b1 b2 b3 b4 hH hR i1 i2 g3 l (Array.getElem?_eq_some_iff.mp g4).1 g1 g2
  refine vx_catch (own := own) (name := E) (E := E) hown pre y suf hsplit (fun u hu => ?_) hcov h0 (hts _ hlink) (va_Nw.use rfl (hB.2.1.2.2.2 _ _ hcast)) g4 g5 g6 hh
  rcases hpass u hu with h | ⟨h0, nm, h1, h2⟩
  · exact Or.inl h
  · exact Or.inr ⟨h0, nm, hts _ h1, hB.2.2.2.2.1 _ h2⟩
theorem gnn_catch (hC : cOk X Y own cc d) (hnL : gLoc X = M.1) (pre : List ExceptionTableEntry) (y : ExceptionTableEntry) (suf : List ExceptionTableEntry) (hsplit : gTab X = pre ++ y :: suf) (hpass : ∀ z ∈ pre, covers z pc = false ∨ (z.catchType ≠ 0 ∧ ∃ nm : String, Cond.classLink own z.catchType nm ∈ lw_all ∧ (cEN, nm) ∈ cNcs)) (hcov : covers y pc = true) (h0 : y.catchType ≠ 0) (hlink : Cond.classLink own y.catchType cEN ∈ lw_all) (hcast : Cond.castable cEN cEN ∈ lw_tbl) {hp : Nat} (hhp : y.handlerPc = hp)
    (kk : GC X Y M F (sX s 1 8) hp lv [.ref (cn s)]) : GNN X Y M F s pc lv := by
  subst hhp
  intro r s' h
  obtain ⟨h1, h2⟩ := gn_at (by omega) hC kk r s' h
  refine ⟨h1, fun ad mc ms cells slots H locs ls rest b1 b2 b3 b4 hH hR i1 i2 hS l hrest => ?_⟩
  obtain ⟨p, la, e, R, z, m, args, below, meth, c⟩ := X
  obtain ⟨⟨hx, hb, hown, hts, hlk⟩, hB, hO, hfr, hlo, hl, hA1, hA2⟩ := hC
  have hfr : d + 16 ≤ R.frames := hfr
  have hlo : 64 * d + 10400 ≤ R.locals := hlo
  obtain ⟨z1, z2, -, -, -, z3, z4⟩ := hB.2.2.2.2.2.2.2.1
  have hk := fun (C n ds : String) (v : Value) (hz : va_Z C n ds v Y.2.2.2.1 z Y.2.2.2.2) => va_Z.kept hz (fun a ha _ => hO.2.1 a ha)
  have hq0 : ∀ (C n ds : String) (i : Nat), va_Z C n ds (cOV Y i) Y.2.2.2.1 z z.heap → va_Zq C n ds Y.2.2.2.1 z z.heap := fun C n ds i hz => by
    unfold cOV at hz
    split at hz
    · exact Or.inl hz
    · exact Or.inr ⟨_, hz⟩
  have hroom : cells + 1 ≤ R.cells ∧ slots + 8 ≤ R.slots := by
    have h3 := (kk r s' h).1
    have m1 := h3.1
    have m2 := h3.2.1
    have e1 : cn (sX s 1 8) = cn s + 1 := rfl
    have e2 : cz (sX s 1 8) = cz s + 8 := rfl
    rw [e1] at m1
    rw [e2] at m2
    have b1 : mc ≤ R.cells := b1
    have b2 : ms ≤ R.slots := b2
    exact ⟨by omega, by omega⟩
  refine vx_npe (A := Y.2.2.2.1) (nb := 8) hx hl (cWd_at cVm_N hts hB.2.1) cVm_Ng ⟨hq0 _ _ _ 257 (hk _ _ _ _ z1), z3.kept (fun a ha _ => hO.2.1 a ha)⟩ ⟨hq0 _ _ _ 258 (hk _ _ _ _ z2), z4.kept (fun a ha _ => hO.2.1 a ha)⟩ hS (l.1.1.trans hnL.symm) (by omega) (by omega) hroom.1 hroom.2 hlk ?_
  intro H1 q9 ce g1 g2 g3 g4 g5 g6
  obtain ⟨-, -, hh⟩ := h2 ad mc ms cells slots H H1 locs ls q9 b1 b2 b3 b4 hH hR i1 i2 g3 l (Array.getElem?_eq_some_iff.mp g4).1 g1 g2
  refine vx_catch (own := own) (name := cEN) (E := cEN) hown pre y suf hsplit (fun u hu => ?_) hcov h0 (hts _ hlink) (va_Nw.use rfl (hB.2.1.2.2.2 _ _ hcast)) g4 g5 g6 hh
  rcases hpass u hu with h | ⟨h0, nm, h1, h2⟩
  · exact Or.inl h
  · exact Or.inr ⟨h0, nm, hts _ h1, hB.2.2.2.2.1 _ h2⟩
end GCT
