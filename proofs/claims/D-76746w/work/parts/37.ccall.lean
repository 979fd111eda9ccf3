/-! contracts of the component's methods, ends, calls -/
def cQc (Y : cY) (s0 : cS) (ad0 : Nat → Nat) (out : Option Value ⊕ Nat) (s' : cS) : Array Value → State → Outcome → State → Prop := fun _ st o u => ∃ (ad' : Nat → Nat) (v : Option Value), out = .inl v ∧ o = .returned (v.map (tv ad')) ∧ (∀ a, a < cn s0 → ad' a = ad0 a) ∧ cH Y ad' s' u.heap ∧ (∀ w, v = some w → vOk s' w) ∧ va_F Y.2.2.2.1 st u
def cXq (Y : cY) (s0 : cS) (ad0 : Nat → Nat) (out : Option Value ⊕ Nat) (s' : cS) : Addr → State → State → Prop := fun q st u => ∃ (ad' : Nat → Nat) (x : Nat), out = .inr x ∧ q = ad' x ∧ (∀ a, a < cn s0 → ad' a = ad0 a) ∧ cH Y ad' s' u.heap ∧ cK s' x ≠ 0 ∧ va_F Y.2.2.2.1 st u
def cPc (Y : cY) (ad : Nat → Nat) (s : cS) (av : List Value) : Array Value → State → Prop := va_Pc (av.map (tv ad)) (fun U => cH Y ad s U.heap ∧ cB Y U ∧ ∀ v ∈ av, vOk s v)
def cRm (d mc ms : Nat) : Room := { frames := d + 16, cells := mc, slots := ms, locals := 64 * d + 10400 }
def cCt (l : Launch) (Y : cY) (y : MethodName) (ws : List Cond) (d : Nat) (av : List Value) (s : cS) (out : Option Value ⊕ Nat) (s' : cS) : Prop :=
  ∀ ad : Nat → Nat, gx_Met l y ws (cRm d (cn s' - cn s) (cz s' - cz s)) (cPc Y ad s av) (cQc Y s ad out s') (cXq Y s ad out s') (cn s' - cn s) (cz s' - cz s) Y.2.2.2.1
def cQf {α : Type} (Y : cY) (X : gCx) (s0 : cS) (ad0 : Nat → Nat) (ρ : α → Option Value ⊕ Nat) : α → cS → Nat → Nat → State → Prop := match X with
  | (_, _, _, _, z, _, args, below, _, _) => fun r s' mc ms => gx_MQ below (cQc Y s0 ad0 (ρ r) s') (cXq Y s0 ad0 (ρ r) s') args z mc ms Y.2.2.2.1
abbrev cM {α : Type} (Y : cY) (X : gCx) (nL : Nat) (s0 : cS) (ad0 : Nat → Nat) (ρ : α → Option Value ⊕ Nat) : cMd α := (nL, s0, ad0, cQf Y X s0 ad0 ρ)
theorem cPc_blind {Y : cY} {ad : Nat → Nat} {s : cS} {av : List Value} : FrameBlind (cPc Y ad s av) := fun a U g mk q => by
  obtain ⟨q0, q1, q2, q3⟩ := q
  exact ⟨q0, q1, cB.moved (s := U) (U := U.calling g mk a) (State.WarmedH.refl U) q2, q3⟩
def gWx (X : gCx) (H : Heap) (locs : List Loc) (cells slots : Nat) (Q : State → Prop) (g : JFrame) (q : Addr) : Prop := match X with
  | (p, l, e, R, s, m, args, below, meth, c) => vx_W p l e R s m args below meth c H locs cells slots Q g q
/-- the object x is thrown at pc -/
def GX {α : Type} (X : gCx) (Y : cY) (M : cMd α) (F : Option (α × cS)) (s : cS) (pc : Nat) (lv : List (Nat × Value)) (x : Nat) : Prop :=
  ∀ (r : α) (s' : cS), F = some (r, s') → cMo s s' ∧
    ∀ (ad : Nat → Nat) (mc ms cells slots : Nat) (H : Heap) (locs : List Loc) (ls : Array Slot) (rest : List Value), mc ≤ (gRm X).cells → ms ≤ (gRm X).slots → cells + cn s' ≤ mc + cn s → slots + cz s' ≤ ms + cz s →
      cH Y ad s H → cRf s lv [.ref x] → cn M.2.1 ≤ cn s → (∀ a, a < cn M.2.1 → ad a = M.2.2.1 a) → va_S Y.2.2.2.1 (gSt X).heap H locs → gHas ls M.1 (lmap ad lv) →
      gWx X H locs cells slots (M.2.2.2 r s' mc ms) (F0 (gMe X) pc ls rest) (ad x)
/-- a call, seen from the machine -/
def cRun (X : gCx) (H : Heap) (locs : List Loc) (cells slots mc ms : Nat) (g : JFrame) (len : Nat) (rest : List Value) (Qa : State → Outcome → State → Prop) (XQ : Addr → State → State → Prop) (free : Addr → Prop) : Prop := match X with
  | (p, l, e, R, s, m, args, below, meth, c) => ∀ T : State, T.heap = H → Stand p l e R s m args below meth c T locs cells slots →
    (∃ (v : Option Value) (st₀ t T' : State) (L : List Loc), st₀.heap = H ∧ Stand p l e R s m args below meth c T' (locs ++ L) (cells + mc) (slots + ms) ∧ (∀ q ∈ L, free q.base) ∧ T'.heap = t.heap ∧ T'.vm = t.vm ∧ Qa st₀ (.returned v) t ∧
      ∀ target, Steps p.tables e below (T'.setTop { g with pc := g.pc + len, stack := v.toList ++ rest }) target → Steps p.tables e below (T.setTop g) target) ∨
    (∃ (q : Addr) (st₀ t T' : State) (L : List Loc), st₀.heap = H ∧ Stand p l e R s m args below meth c T' (locs ++ L) (cells + mc) (slots + ms) ∧ (∀ z ∈ L, free z.base) ∧ T'.heap = t.heap ∧ T'.vm = t.vm ∧ XQ q st₀ t ∧
      Steps p.tables e below (T.setTop g) ((T'.setTop { g with stack := rest }).pushFrame (.throwing q)))
theorem cH.lt {Y : cY} {ad : Nat → Nat} {s : cS} {H : Heap} {a : Nat} (h : cH Y ad s H) (ha : cK s a ≠ 0) : a < cn s := Nat.lt_of_not_le fun q => ha (h.1.2 a q)
theorem tv_agree {Y : cY} {ad ad' : Nat → Nat} {s : cS} {H : Heap} {v : Value} (h : cH Y ad s H) (hag : ∀ a, a < cn s → ad' a = ad a) (hv : vOk s v) : tv ad' v = tv ad v := by
  cases v with
  | ref a =>
    show Value.ref (ad' a) = .ref (ad a)
    rw [hag a (h.lt hv)]
  | _ => rfl
theorem vOk.mo {s s' : cS} {v : Value} (h : cMo s s') (hlt : ∀ a, cK s a ≠ 0 → a < cn s) (hv : vOk s v) : vOk s' v := by
  cases v with
  | ref a =>
    show cK s' a ≠ 0
    rw [h.2.2 a (hlt a hv)]; exact hv
  | _ => trivial
section GCC
variable {α β : Type} {X : gCx} {Y : cY} {M : cMd α} {F : Option (α × cS)} {s s1 : cS} {pc pc' d : Nat} {lv lv' : List (Nat × Value)} {st st' rest : List Value} {own : String} {cc : ByteArray} {ρ' : β → Option Value ⊕ Nat} {f : Option (β × cS)} {K : β → cS → Option (α × cS)} {len : Nat}
/-- behind a call -/
theorem gc_after (hf : ∀ (r : β) (s1 : cS), f = some (r, s1) → cMo s s1 ∧ ∀ (ad : Nat → Nat) (H : Heap) (locs : List Loc) (cells slots : Nat) (ls : Array Slot), cH Y ad s H → cRf s lv st → gHas ls M.1 (lmap ad lv) → cells + (cn s1 - cn s) ≤ (gRm X).cells → slots + (cz s1 - cz s) ≤ (gRm X).slots →
      ∃ a : Array Value, cRun X H locs cells slots (cn s1 - cn s) (cz s1 - cz s) (F0 (gMe X) pc ls (st.map (tv ad))) len (rest.map (tv ad)) (cQc Y s ad (ρ' r) s1 a) (cXq Y s ad (ρ' r) s1) Y.2.2.2.1) (hrest : ∀ v ∈ rest, v ∈ st)
    (kn : ∀ (r : β) (s1 : cS) (v : Option Value), ρ' r = .inl v → GC X Y M (K r s1) s1 (pc + len) lv (v.toList ++ rest)) (kx : ∀ (r : β) (s1 : cS) (x : Nat), ρ' r = .inr x → GX X Y M (K r s1) s1 pc lv x) : GC X Y M (ob f K) s pc lv st := by
  cases hfe : f with
  | none => exact gc_none
  | some q =>
    obtain ⟨r, s1⟩ := q
    obtain ⟨hmo, hrun⟩ := hf r s1 hfe
    intro r' t' h'
    have h' : K r s1 = some (r', t') := h'
    cases hρ : ρ' r with
    | inl v =>
      obtain ⟨h1, h2⟩ := kn r s1 v hρ r' t' h'
      refine ⟨hmo.trans h1, fun ad mc ms cells slots H locs ls a b c dd hH hR g i hS l => ?_⟩
      have m1 := hmo.1
      have m2 := hmo.2.1
      have m3 := h1.1
      have m4 := h1.2.1
      obtain ⟨av, hrun⟩ := hrun ad H locs cells slots ls hH hR l (by omega) (by omega)
      obtain ⟨p, la, e, R, z, m, args, below, meth, cd⟩ := X
      intro T hT XS
      rcases hrun T hT XS with ⟨v', st₀, t2, T', L, g0, X', hL, e1, e2, hq, hgo⟩ | ⟨q', st₀, t2, T', L, g0, X', hL, e1, e2, hq, hgo⟩
      · obtain ⟨ad', v2, k1, k2, k3, k4, k5, k6⟩ := hq
        rw [hρ] at k1
        cases k1
        cases k2
        have hlt : ∀ a, cK s a ≠ 0 → a < cn s := fun a ha => hH.lt ha
        have hR1 : cRf s1 lv (v.toList ++ rest) := by
          refine ⟨fun q hq => (hR.1 q hq).mo hmo hlt, fun w hw => ?_⟩
          rcases List.mem_append.mp hw with q | q
          · cases v with
            | none => cases q
            | some w' =>
              rcases List.mem_singleton.mp q with rfl
              exact k5 w rfl
          · exact (hR.2 w (hrest w q)).mo hmo hlt
        have hl1 : lmap ad' lv = lmap ad lv := List.map_congr_left fun q hq => by rw [tv_agree hH k3 (hR.1 q hq)]
        have hs1 : rest.map (tv ad') = rest.map (tv ad) := List.map_congr_left fun q hq => tv_agree hH k3 (hR.2 q (hrest q hq))
        have hs2 : (v.toList ++ rest).map (tv ad') = (v.map (tv ad')).toList ++ rest.map (tv ad) := by
          rw [List.map_append, hs1]
          cases v <;> rfl
        have hh := h2 ad' mc ms (cells + (cn s1 - cn s)) (slots + (cz s1 - cz s)) T'.heap (locs ++ L) ls a b (by omega) (by omega) (by rw [e1]; exact k4) hR1 (by omega) (fun u hu => by rw [k3 u (by omega)]; exact i u hu) (g_keep g0 e1 hS (fun _ h => h) (fun _ h => h) hL k6) (by rw [hl1]; exact l)
        rw [hs2] at hh
        obtain ⟨t3, a1, b1⟩ := hh T' rfl X'
        exact ⟨t3, hgo t3 a1, b1⟩
      · obtain ⟨ad', x, k1, -⟩ := hq
        rw [hρ] at k1
        cases k1
    | inr x =>
      obtain ⟨h1, h2⟩ := kx r s1 x hρ r' t' h'
      refine ⟨hmo.trans h1, fun ad mc ms cells slots H locs ls a b c dd hH hR g i hS l => ?_⟩
      have m1 := hmo.1
      have m2 := hmo.2.1
      have m3 := h1.1
      have m4 := h1.2.1
      obtain ⟨av, hrun⟩ := hrun ad H locs cells slots ls hH hR l (by omega) (by omega)
      obtain ⟨p, la, e, R, z, m, args, below, meth, cd⟩ := X
      intro T hT XS
      rcases hrun T hT XS with ⟨v', st₀, t2, T', L, g0, X', hL, e1, e2, hq, hgo⟩ | ⟨q', st₀, t2, T', L, g0, X', hL, e1, e2, hq, hgo⟩
      · obtain ⟨ad', v2, k1, -⟩ := hq
        rw [hρ] at k1
        cases k1
      · obtain ⟨ad', x', k1, k2, k3, k4, k5, k6⟩ := hq
        rw [hρ] at k1
        cases k1
        subst k2
        have hlt : ∀ a, cK s a ≠ 0 → a < cn s := fun a ha => hH.lt ha
        have hR1 : cRf s1 lv [.ref x] := ⟨fun q hq => (hR.1 q hq).mo hmo hlt, fun w hw => by rcases List.mem_singleton.mp hw with rfl; exact k5⟩
        have hl1 : lmap ad' lv = lmap ad lv := List.map_congr_left fun q hq => by rw [tv_agree hH k3 (hR.1 q hq)]
        have hh := h2 ad' mc ms (cells + (cn s1 - cn s)) (slots + (cz s1 - cz s)) T'.heap (locs ++ L) ls (rest.map (tv ad)) a b (by omega) (by omega) (by rw [e1]; exact k4) hR1 (by omega) (fun u hu => by rw [k3 u (by omega)]; exact i u hu) (g_keep g0 e1 hS (fun _ h => h) (fun _ h => h) hL k6) (by rw [hl1]; exact l)
        obtain ⟨t3, a1, b1⟩ := hh T' rfl X'
        exact ⟨t3, hgo.trans a1, b1⟩
end GCC
