/-! the ends of the component's methods, their entry, throwing and catching -/
def gTab (X : gCx) : List ExceptionTableEntry := X.2.2.2.2.2.2.2.2.2.exceptionTable.toList
section GCE
variable {α : Type} {X : gCx} {Y : cY} {nL : Nat} {s0 : cS} {ad0 : Nat → Nat} {ρ : α → Option Value ⊕ Nat} {F : Option (α × cS)} {s : cS} {pc d : Nat} {lv lv' : List (Nat × Value)} {st : List Value} {own : String} {cc : ByteArray}
theorem gc_iret {x : Int32} {r : α} (hC : cOk X Y own cc d) {ty : FieldType} (hr : gRet X = some ty) (hn : narrow ty (.int x) = .int x) (hρ : ρ r = .inl (some (.int x))) (hdg : decode cc pc = .ok (.ireturn, 1)) : GC X Y (cM Y X nL s0 ad0 ρ) (some (r, s)) s pc lv [.int x] := by
  intro r' t' h
  cases h
  refine ⟨cMo.rf _, fun ad mc ms cells slots H locs ls a b c dd hH hR g i hS l => ?_⟩
  obtain ⟨p, la, e0, R, z, m, args, below, meth, c0⟩ := X
  obtain ⟨⟨hx, hb, hown, hts, hlk⟩, -⟩ := hC
  refine W.widen (k := mc) (n := ms) (by omega) (by omega) ?_
  show W p la e0 R z m args below meth c0 H locs mc ms (gx_MQ below (cQc Y s0 ad0 (ρ r) s) (cXq Y s0 ad0 (ρ r) s) args z mc ms Y.2.2.2.1) (F0 m pc ls [.int x])
  exact gx_ret (W.zret (v := x) hx hb hr hn (fun u hu hW => ⟨ad, some (.int x), hρ, rfl, i, by rw [hu]; exact hH, fun w hw => by cases hw; trivial, hS.F hu⟩) hS.2.2 hdg hlk)
theorem gc_vret {r : α} (hC : cOk X Y own cc d) (hr : gRet X = none) (hρ : ρ r = .inl none) (hdg : decode cc pc = .ok (.return_, 1)) : GC X Y (cM Y X nL s0 ad0 ρ) (some (r, s)) s pc lv [] := by
  intro r' t' h
  cases h
  refine ⟨cMo.rf _, fun ad mc ms cells slots H locs ls a b c dd hH hR g i hS l => ?_⟩
  obtain ⟨p, la, e0, R, z, m, args, below, meth, c0⟩ := X
  obtain ⟨⟨hx, hb, hown, hts, hlk⟩, -⟩ := hC
  refine W.widen (k := mc) (n := ms) (by omega) (by omega) ?_
  show W p la e0 R z m args below meth c0 H locs mc ms (gx_MQ below (cQc Y s0 ad0 (ρ r) s) (cXq Y s0 ad0 (ρ r) s) args z mc ms Y.2.2.2.1) (F0 m pc ls [])
  exact gx_ret (W.vret hx hb hr (fun u hu hW => ⟨ad, none, hρ, rfl, i, by rw [hu]; exact hH, (fun w hw => by cases hw), hS.F hu⟩) hS.2.2 hdg hlk)
theorem gc_aret {v : Value} {r : α} (hC : cOk X Y own cc d) {rt : FieldType} (hr : gRet X = some rt) (hrt : (∃ n, rt = .object n) ∨ ∃ t, rt = .array t) (hv : refV v) (hρ : ρ r = .inl (some v)) (hdg : decode cc pc = .ok (.areturn, 1)) : GC X Y (cM Y X nL s0 ad0 ρ) (some (r, s)) s pc lv [v] := by
  intro r' t' h
  cases h
  refine ⟨cMo.rf _, fun ad mc ms cells slots H locs ls a b c dd hH hR g i hS l => ?_⟩
  obtain ⟨p, la, e0, R, z, m, args, below, meth, c0⟩ := X
  obtain ⟨⟨hx, hb, hown, hts, hlk⟩, -⟩ := hC
  refine W.widen (k := mc) (n := ms) (by omega) (by omega) ?_
  show W p la e0 R z m args below meth c0 H locs mc ms (gx_MQ below (cQc Y s0 ad0 (ρ r) s) (cXq Y s0 ad0 (ρ r) s) args z mc ms Y.2.2.2.1) (F0 m pc ls [tv ad v])
  exact gx_ret (W.aret (v := tv ad v) hx hb hr hrt (by
    rcases hv with rfl | ⟨a, rfl⟩
    · exact Or.inl rfl
    · exact Or.inr ⟨ad a, rfl⟩) (fun u hu hW => ⟨ad, some v, hρ, rfl, i, by rw [hu]; exact hH, fun w hw => by cases hw; exact hR.2 v List.mem_cons_self, hS.F hu⟩) hS.2.2 hdg hlk)
theorem gc_athrow {M : cMd α} {x : Nat} (hC : gOk X own cc) (hdg : decode cc pc = .ok (.athrow, 1)) (k : GX X Y M F s pc lv x) : GC X Y M F s pc lv (.ref x :: st) := by
  intro r t' h
  obtain ⟨h1, h2⟩ := k r t' h
  refine ⟨h1, fun ad mc ms cells slots H locs ls a b c dd hH hR g i hS l => ?_⟩
  have hh := h2 ad mc ms cells slots H locs ls (st.map (tv ad)) a b c dd hH ⟨hR.1, fun v hv => by rcases List.mem_singleton.mp hv with rfl; exact hR.head⟩ g i hS l
  obtain ⟨p, la, e0, R, z, m, args, below, meth, c0⟩ := X
  exact vx_athrow hC.1 hC.2.1 hdg hh
/-- it goes on to the caller -/
theorem gx_outR {x ci : Nat} {rr : vw_C} {r : α} (hC : cOk X Y own cc d) (hk : cK s x = ci + 1) (hr : ccl[ci]? = some rr) (hρ : ρ r = .inr x) (hpass : ∀ z ∈ gTab X, covers z pc = false ∨ (z.catchType ≠ 0 ∧ ∃ nm : String, Cond.classLink own z.catchType nm ∈ lw_all ∧ (rr.1, nm) ∈ cNcs)) : GX X Y (cM Y X nL s0 ad0 ρ) (some (r, s)) s pc lv x := by
  intro r' t' h
  cases h
  refine ⟨cMo.rf _, fun ad mc ms cells slots H locs ls rest a b c dd hH hR g i hS l => ?_⟩
  obtain ⟨cell, q1, q2, q3, -⟩ := hH.obj hk hr
  obtain ⟨p, la, e0, R, z, m, args, below, meth, c0⟩ := X
  obtain ⟨⟨hx, hb, hown, hts, hlk⟩, hB, -⟩ := hC
  show vx_W p la e0 R z m args below meth c0 H locs cells slots (gx_MQ below (cQc Y s0 ad0 (ρ r) s) (cXq Y s0 ad0 (ρ r) s) args z mc ms Y.2.2.2.1) (F0 m pc ls rest) (ad x)
  refine gx_outP (own := own) (E := rr.1) hown hlk (fun y hy => ?_) q1 q3 (by rw [q2]; exact (hB.1.1 ci _ hr).2.1) (fun t ht hvm => ⟨ad, x, hρ, rfl, i, by rw [ht]; exact hH, by rw [hk]; omega, hS.F ht⟩) hS.2.2 (by omega) (by omega)
  rcases hpass y hy with h | ⟨h0, nm, h1, h2⟩
  · exact Or.inl h
  · exact Or.inr ⟨h0, nm, hts _ h1, hB.2.2.2.2.1 _ h2⟩
/-- it's caught here -/
theorem gx_catchR {M : cMd α} {x ci : Nat} {rr : vw_C} {name : String} (hC : cOk X Y own cc d) (hk : cK s x = ci + 1) (hr : ccl[ci]? = some rr) (pre : List ExceptionTableEntry) (y : ExceptionTableEntry) (suf : List ExceptionTableEntry) (hsplit : gTab X = pre ++ y :: suf) (hpass : ∀ z ∈ pre, covers z pc = false ∨ (z.catchType ≠ 0 ∧ ∃ nm : String, Cond.classLink own z.catchType nm ∈ lw_all ∧ (rr.1, nm) ∈ cNcs)) (hcov : covers y pc = true) (h0 : y.catchType ≠ 0) (hlink : Cond.classLink own y.catchType name ∈ lw_all) (hcast : Cond.castable rr.1 name ∈ lw_tbl) {hp : Nat} (hhp : y.handlerPc = hp)
    (k : GC X Y M F s hp lv [.ref x]) : GX X Y M F s pc lv x := by
  subst hhp
  intro r t' h
  obtain ⟨h1, h2⟩ := k r t' h
  refine ⟨h1, fun ad mc ms cells slots H locs ls rest a b c dd hH hR g i hS l => ?_⟩
  obtain ⟨cell, q1, q2, q3, -⟩ := hH.obj hk hr
  have hh := h2 ad mc ms cells slots H locs ls a b c dd hH hR g i hS l
  obtain ⟨p, la, e0, R, z, m, args, below, meth, c0⟩ := X
  obtain ⟨⟨hx, hb, hown, hts, hlk⟩, hB, -⟩ := hC
  refine vx_catch (own := own) (name := name) (E := rr.1) hown pre y suf hsplit (fun u hu => ?_) hcov h0 (hts _ hlink) (va_Nw.use rfl (hB.2.1.2.2.2 _ _ hcast)) q1 q3 (by rw [q2]; exact (hB.1.1 ci _ hr).2.1) hh
  rcases hpass u hu with h | ⟨h0, nm, h1, h2⟩
  · exact Or.inl h
  · exact Or.inr ⟨h0, nm, hts _ h1, hB.2.2.2.2.1 _ h2⟩
end GCE
/-- a method's contract out of its walk -/
theorem lv_args_map (ad : Nat → Nat) (av : List Value) : ∀ i, lv_args i (av.map (tv ad)) = lmap ad (lv_args i av) := by
  induction av with
  | nil => intro i; rfl
  | cons v l ih =>
    intro i
    show (i, tv ad v) :: lv_args (if (tv ad v).category = 2 then i + 2 else i + 1) (l.map (tv ad)) = _
    rw [tv_cat, ih]
    rfl
theorem lv_args_mem (av : List Value) : ∀ (i : Nat) (q : Nat × Value), q ∈ lv_args i av → q.2 ∈ av := by
  induction av with
  | nil => intro i q h; cases h
  | cons v l ih =>
    intro i q h
    rcases List.mem_cons.mp h with e | e
    · rw [e]; exact List.mem_cons_self
    · exact List.mem_cons_of_mem _ (ih _ q e)
theorem lg_sl_map (ad : Nat → Nat) (av : List Value) : (lg_sl (av.map (tv ad))).length = (lg_sl av).length := by
  unfold lg_sl
  induction av with
  | nil => rfl
  | cons v l ih =>
    simp only [List.map_cons, List.flatMap_cons, List.length_append, tv_cat, ih]
    congr 1
    split <;> rfl
/-- numbers and slots only grow -/
def MO {α : Type} (s : cS) (F : Option (α × cS)) : Prop := ∀ (r : α) (s' : cS), F = some (r, s') → cMo s s'
section MOS
variable {α β : Type} {s e : cS}
theorem mo_none : MO s (none : Option (α × cS)) := fun _ _ h => by cases h
theorem mo_some {r : α} : MO s (some (r, s)) := fun _ _ h => by cases h; exact cMo.rf _
theorem mo_ite {c : Prop} [Decidable c] {A B : Option (α × cS)} (a : MO s A) (b : MO s B) : MO s (if c then A else B) := by
  by_cases h : c
  · rw [if_pos h]; exact a
  · rw [if_neg h]; exact b
theorem mo_gd {c : Prop} [Decidable c] {A : Option (α × cS)} (a : MO s A) : MO s (gd c A) := mo_ite a mo_none
theorem mo_rv {x : Option β} {K : β → Option (α × cS)} (k : ∀ y, MO s (K y)) : MO s (rv x K) := by
  cases x with
  | none => exact mo_none
  | some y => exact k y
theorem mo_onul {x : Option Nat} {A : Option (α × cS)} {B : Nat → Option (α × cS)} (a : MO s A) (b : ∀ y, MO s (B y)) : MO s (onul x A B) := by
  cases x with
  | none => exact a
  | some y => exact b y
theorem mo_letv {x : β} {K : β → Option (α × cS)} (k : ∀ y, MO s (K y)) : MO s (letv x K) := k x
theorem mo_letS {K : cS → Option (α × cS)} (h : cMo s e) (k : ∀ t, MO t (K t)) : MO s (letv e K) := fun r s' q => h.trans (k e r s' q)
theorem mo_ob {f : Option (β × cS)} {K : β → cS → Option (α × cS)} (h : MO s f) (k : ∀ r t, MO t (K r t)) : MO s (ob f K) := by
  cases hf : f with
  | none => exact mo_none
  | some q =>
    obtain ⟨r, t⟩ := q
    exact fun r' s' hq => (h r t hf).trans (k r t r' s' hq)
theorem mo_jn {J : Type} (P : J → Prop) {f : J} {g : J → Option (α × cS)} (hf : P f) (hg : ∀ j, P j → MO s (g j)) : MO s (jn f g) := hg f hf
theorem mo_sw {x : Int32} {D : Option (α × cS)} {ks : List (Int32 × Option (α × cS))} (h : ∀ q ∈ ks, MO s q.2) (d : MO s D) : MO s (gsw x ks D) := by
  induction ks with
  | nil => exact d
  | cons a r ih =>
    obtain ⟨k, A⟩ := a
    unfold gsw
    exact mo_ite (h (k, A) List.mem_cons_self) (ih fun q hq => h q (List.mem_cons_of_mem _ hq))
theorem cMo_sI {f a : Nat} {x : Int32} : cMo s (sI s f a x) := ⟨Nat.le_refl _, Nat.le_refl _, fun _ _ => rfl⟩
theorem cMo_sR {f a : Nat} {x : Option Nat} : cMo s (sR s f a x) := ⟨Nat.le_refl _, Nat.le_refl _, fun _ _ => rfl⟩
theorem cMo_sN {k len w : Nat} : cMo s (sN s k len w) := ⟨Nat.le_succ _, Nat.le_add_right _ _, fun a ha => if_neg (Nat.ne_of_lt ha)⟩
theorem cMo_sX {c w : Nat} : cMo s (sX s c w) := ⟨Nat.le_add_right _ _, Nat.le_add_right _ _, fun a ha => if_neg (Nat.ne_of_lt ha)⟩
end MOS
theorem cmet {α : Type} {l : Launch} {Y : cY} {y : MethodName} {cc : ByteArray} {nL : Nat} {ret : Option FieldType} {d : Nat} {av : List Value} {s : cS} {f : Option (α × cS)} {ρ : α → Option Value ⊕ Nat} (hmo : MO s f) (hl : l.stackTraces = false) (hY : ∀ q, q < Y.2.2.2.2.size → ¬ Y.2.2.2.1 q) (hy : plainName y.cls = true) (hlen : (lg_sl av).length ≤ nL) (hcat : ∀ q ∈ lv_args 0 av, q.2.category = 1)
    (body : ∀ (X : gCx) (ad0 : Nat → Nat), gLn X = l → cOk X Y y.cls cc d → gLoc X = nL → gRet X = ret → X.2.2.2.2.2.2.2.2.1.name = y.name → gTab X = [] → (gSt X).methodNamed? y = some (gMe X) → GC X Y (cM Y X nL s ad0 ρ) f s 0 (lv_args 0 av) []) : cFn l Y y (ws_ y cc nL ret) d av s f ρ := by
  intro r s' h
  refine ⟨hmo r s' h, fun ad => ?_⟩
  refine gx_ofW (cc := cc) (maxL := nL) (ret := ret) hy rfl ?_
  intro p e z m args below meth c s₁ B hml htab hv
  obtain ⟨rfl, hH, hB, hvo⟩ := hv
  have hts := atoms_spec (ws := ws_ y cc nL ret) B.pre
  have hts : ∀ w ∈ lw_all, w.before _ z = true := fun w h => hts w (List.mem_cons_of_mem _ h)
  have hown : z.vm.findClass y.cls = some m.cls := findClass_of_methodNamed B.named
  have hl1 := lv_entry (av.map (tv ad)) (n := nL) (by rw [lg_sl_map]; exact hlen)
  obtain ⟨-, h2⟩ := body (p, l, e, cRm d (cn s' - cn s) (cz s' - cz s), z, m, (av.map (tv ad)).toArray, below, meth, c) ad rfl ⟨⟨B.exec, B.bytes, hown, hts, B.notSynchronized⟩, hB, hH.2.2.2.2.2, Nat.le_refl _, Nat.le_refl _, hl, hH.2.2.2.2.2.2.2, hY⟩ hml B.returns (name_of_methodNamed B.named B.method).1
    (by
      show c.exceptionTable.toList = []
      cases hx : c.exceptionTable.toList with
      | nil => rfl
      | cons a t => exact absurd (by rw [hx]; exact List.mem_cons_self) (htab a)) B.named r s' h
  have m1 := (hmo r s' h).1
  have m2 := (hmo r s' h).2.1
  rw [lg_entry_eq]
  refine h2 ad (cn s' - cn s) (cz s' - cz s) 0 0 z.heap [] _ (Nat.le_refl _) (Nat.le_refl _) (by omega) (by omega) hH ⟨fun q hq => hvo _ (lv_args_mem av 0 q hq), fun v hv => by cases hv⟩ (Nat.le_refl _) (fun _ _ => rfl) va_S.rf ⟨by rw [← lv_args_map]; exact hl1, fun q hq => ?_⟩
  obtain ⟨q0, hq0, rfl⟩ := List.mem_map.mp hq
  show (tv ad q0.2).category = 1
  rw [tv_cat]
  exact hcat q0 hq0
theorem cmetW {α : Type} {l : Launch} {Y : cY} {y : MethodName} {cc : ByteArray} {nL : Nat} {ret : Option FieldType} {hh : List (Nat × Nat × Nat × Nat)} {d : Nat} {av : List Value} {s : cS} {f : Option (α × cS)} {ρ : α → Option Value ⊕ Nat} (hmo : MO s f) (hl : l.stackTraces = false) (hY : ∀ q, q < Y.2.2.2.2.size → ¬ Y.2.2.2.1 q) (hy : plainName y.cls = true) (hlen : (lg_sl av).length ≤ nL) (hcat : ∀ q ∈ lv_args 0 av, q.2.category = 1)
    (body : ∀ (X : gCx) (ad0 : Nat → Nat), gLn X = l → cOk X Y y.cls cc d → gLoc X = nL → gRet X = ret → X.2.2.2.2.2.2.2.2.1.name = y.name → gTab X = tableOf hh → (gSt X).methodNamed? y = some (gMe X) → GC X Y (cM Y X nL s ad0 ρ) f s 0 (lv_args 0 av) []) : cFn l Y y (wsW_ y cc nL ret hh) d av s f ρ := by
  intro r s' h
  refine ⟨hmo r s' h, fun ad => ?_⟩
  refine gx_ofWH (cc := cc) (maxL := nL) (ret := ret) (hh := hh) hy rfl ?_
  intro p e z m args below meth c s₁ B hml hv
  obtain ⟨rfl, hH, hB, hvo⟩ := hv
  have hts0 := atoms_spec (ws := wsW_ y cc nL ret hh) B.pre
  have hts : ∀ w ∈ lw_all, w.before _ z = true := fun w h => hts0 w (List.mem_cons_of_mem _ h)
  have hown : z.vm.findClass y.cls = some m.cls := findClass_of_methodNamed B.named
  have hl1 := lv_entry (av.map (tv ad)) (n := nL) (by rw [lg_sl_map]; exact hlen)
  obtain ⟨-, h2⟩ := body (p, l, e, cRm d (cn s' - cn s) (cz s' - cz s), z, m, (av.map (tv ad)).toArray, below, meth, c) ad rfl ⟨⟨B.exec, B.bytes, hown, hts, B.notSynchronized⟩, hB, hH.2.2.2.2.2, Nat.le_refl _, Nat.le_refl _, hl, hH.2.2.2.2.2.2.2, hY⟩ hml B.returns (name_of_methodNamed B.named B.method).1
    (vx_table (x := y) B (hts0 _ List.mem_cons_self)) B.named r s' h
  have m1 := (hmo r s' h).1
  have m2 := (hmo r s' h).2.1
  rw [lg_entry_eq]
  refine h2 ad (cn s' - cn s) (cz s' - cz s) 0 0 z.heap [] _ (Nat.le_refl _) (Nat.le_refl _) (by omega) (by omega) hH ⟨fun q hq => hvo _ (lv_args_mem av 0 q hq), fun v hv => by cases hv⟩ (Nat.le_refl _) (fun _ _ => rfl) va_S.rf ⟨by rw [← lv_args_map]; exact hl1, fun q hq => ?_⟩
  obtain ⟨q0, hq0, rfl⟩ := List.mem_map.mp hq
  show (tv ad q0.2).category = 1
  rw [tv_cat]
  exact hcat q0 hq0
