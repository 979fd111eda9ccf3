/-! the twin's calls, and a method's entry -/
theorem g_keep {A0 A1 free : Nat → Prop} {H0 H : Heap} {locs L : List Loc} {st₀ t T' : State} (h0 : st₀.heap = H) (e1 : T'.heap = t.heap) (hS : va_S A0 H0 H locs) (hA : ∀ q, A1 q → A0 q) (hf : ∀ q, free q → A0 q) (hL : ∀ q ∈ L, free q.base) (hF : va_F A1 st₀ t) : va_S A0 H0 T'.heap (locs ++ L) := by
  obtain ⟨hz, hk⟩ := hF
  rw [h0] at hz hk
  exact ⟨Nat.le_trans hS.1 (by rw [e1]; exact hz), fun q h1 h2 => by rw [e1, hk q (Nat.lt_of_lt_of_le h1 hS.1) (fun z => h2 (hA q z))]; exact hS.2.1 q h1 h2, fun q hq => by
    rcases List.mem_append.mp hq with h | h
    · exact hS.2.2 q h
    · exact hf _ (hL q h)⟩
section TWC
variable {α β : Type} {X : gCx} {Z : tZ} {nL : Nat} {ρ : α → Option Value} {t : tSt} {pc d d' index maxL n : Nat} {lv : List (Nat × Value)} {own : String} {cc bytes : ByteArray} {y : MethodName} {ret : Option FieldType} {f : Option (β × tSt)} {ρ' : β → Option Value} {K : β → tSt → Option (α × tSt)} {As rest : List Value}
theorem tPc_blind {Z : tZ} {t : tSt} {av : List Value} : FrameBlind (va_Pc av (fun U => tI Z t U.heap ∧ va_K Z.1 tcl (tTys Z) U)) := fun a U g mk q => by
  obtain ⟨q0, q1, q2⟩ := q
  exact ⟨q0, q1, va_K.moved (u := U) (U := U.calling g mk a) (Vm.Alike.refl U.vm) q2⟩
theorem tf_callV (hC : tOk X Z own cc d) (hnL : gLoc X = nL) (hM : ∀ r t', f = some (r, t') → tCt (gLn X) Z y bytes maxL ret d' (.ref (Z.2.2.2 18) :: As) t (ρ' r) t') (hdg : decode cc pc = .ok (.invokevirtual index, 3))
    (hw : GoodIn lw_all (wsV own index RX4 y (ws_ y bytes maxL ret))) (hy : y.cls = RX4 ∧ y.cls ≠ "java/lang/invoke/MethodHandle" ∧ y.cls ≠ "java/lang/invoke/VarHandle" ∧ (parseMethodDescriptor y.desc).map (fun d => d.parameters.length) = some n) (hn : As.length = n)
    (hd : d' + 1 ≤ d) (hm : maxL ≤ 45) (hr : (rest.map fun v => v.category).sum ≤ 8) {st1 : β → List Value} (hst : ∀ r : β, (ρ' r).toList ++ rest = st1 r) (kk : ∀ r t1, GF X (tM Z X nL ρ) (K r t1) t1 (pc + 3) lv (st1 r)) : GF X (tM Z X nL ρ) (ob f K) t pc lv (As.reverse ++ .ref (Z.2.2.2 18) :: rest) := by
  cases h : f with
  | none => exact gf_none
  | some q =>
    obtain ⟨r, t1⟩ := q
    intro r' t' h'
    have kk := kk r t1
    rw [← hst r] at kk
    obtain ⟨h1, h2⟩ := kk r' t' h'
    refine ⟨⟨Nat.le_refl _, Nat.le_refl _⟩, fun mc ms cells slots H locs ls ha hb0 hc0 hd0 hI hS hl => ?_⟩
    have hM := hM r t1 h
    obtain ⟨p, l, e, R, s, m, args, below, meth, c⟩ := X
    obtain ⟨⟨hx, hb, hown, hts, hlk⟩, hK, hj, hfr, hlo⟩ := hC
    have hfr : d ≤ R.frames := hfr
    have hlo : 64 * d ≤ R.locals := hlo
    have hc1 : cells ≤ mc := by simpa using hc0
    have hd1 : slots ≤ ms := by simpa using hd0
    have ha1 : mc ≤ R.cells := ha
    have hb1 : ms ≤ R.slots := hb0
    intro T hT XS
    obtain ⟨v, st₀, t2, T', L, g0, X', hL, e1, e2, hq, hgo⟩ := va_runV (As := As) (rest := rest) (g := F0 m pc ls (As.reverse ++ .ref (Z.2.2.2 18) :: rest)) ⟨hx, hb, hnL, hown, hts⟩ hM
      (cwV n hts hw rfl rfl rfl hy ⟨by show d' + 1 ≤ R.frames; omega, by show 8 + (maxL + 11) + 64 * d' ≤ R.locals; omega⟩)
      ⟨tPc_blind, va_recv hK hI (ci := 0) (q0 := 18) rfl (twL_at (by decide)), fun U hU hW => ⟨rfl, by rw [hU]; exact hI, va_K.moved hW.alike hK⟩⟩ rfl hn hl.1.1 rfl (lv_room hr) hdg ⟨by omega, by omega⟩ T hT XS
    obtain ⟨hv, hI2, hF⟩ := hq
    cases hv
    obtain ⟨t3, a1, b1⟩ := h2 mc ms cells slots T'.heap (locs ++ L) ls ha hb0 hc0 hd0 (by rw [e1]; exact hI2) (g_keep g0 e1 hS (fun _ h => h) (fun _ h => h) hL hF) hl T' rfl X'
    exact ⟨t3, hgo t3 a1, b1⟩
theorem tf_callS (hC : tOk X Z own cc d) (hnL : gLoc X = nL) (hM : ∀ r t', f = some (r, t') → tCt (gLn X) Z y bytes maxL ret d' As t (ρ' r) t') (hdg : decode cc pc = .ok (.invokestatic index, 3))
    (hw : GoodIn lw_all (va_wsS own index y (ws_ y bytes maxL ret))) (hy : y.cls ≠ "java/lang/invoke/MethodHandle" ∧ y.cls ≠ "java/lang/invoke/VarHandle" ∧ (parseMethodDescriptor y.desc).map (fun d => d.parameters.length) = some n) (hn : As.length = n)
    (hd : d' + 1 ≤ d) (hm : maxL ≤ 45) (hr : (rest.map fun v => v.category).sum ≤ 8) {st1 : β → List Value} (hst : ∀ r : β, (ρ' r).toList ++ rest = st1 r) (kk : ∀ r t1, GF X (tM Z X nL ρ) (K r t1) t1 (pc + 3) lv (st1 r)) : GF X (tM Z X nL ρ) (ob f K) t pc lv (As.reverse ++ rest) := by
  cases h : f with
  | none => exact gf_none
  | some q =>
    obtain ⟨r, t1⟩ := q
    intro r' t' h'
    have kk := kk r t1
    rw [← hst r] at kk
    obtain ⟨h1, h2⟩ := kk r' t' h'
    refine ⟨⟨Nat.le_refl _, Nat.le_refl _⟩, fun mc ms cells slots H locs ls ha hb0 hc0 hd0 hI hS hl => ?_⟩
    have hM := hM r t1 h
    obtain ⟨p, l, e, R, s, m, args, below, meth, c⟩ := X
    obtain ⟨⟨hx, hb, hown, hts, hlk⟩, hK, hj, hfr, hlo⟩ := hC
    have hfr : d ≤ R.frames := hfr
    have hlo : 64 * d ≤ R.locals := hlo
    have hc1 : cells ≤ mc := by simpa using hc0
    have hd1 : slots ≤ ms := by simpa using hd0
    have ha1 : mc ≤ R.cells := ha
    have hb1 : ms ≤ R.slots := hb0
    intro T hT XS
    obtain ⟨v, st₀, t2, T', L, g0, X', hL, e1, e2, hq, hgo⟩ := va_runS (As := As) (rest := rest) (g := F0 m pc ls (As.reverse ++ rest)) ⟨hx, hb, hnL, hown, hts⟩ hM
      (va_cwS n hts hw rfl rfl rfl hy ⟨by show d' + 1 ≤ R.frames; omega, by show 8 + (maxL + 11) + 64 * d' ≤ R.locals; omega⟩)
      ⟨tPc_blind, fun U hU hW => ⟨rfl, by rw [hU]; exact hI, va_K.moved hW.alike hK⟩⟩ rfl hn hl.1.1 rfl (lv_room hr) hdg ⟨by omega, by omega⟩ T hT XS
    obtain ⟨hv, hI2, hF⟩ := hq
    cases hv
    obtain ⟨t3, a1, b1⟩ := h2 mc ms cells slots T'.heap (locs ++ L) ls ha hb0 hc0 hd0 (by rw [e1]; exact hI2) (g_keep g0 e1 hS (fun _ h => h) (fun _ h => h) hL hF) hl T' rfl X'
    exact ⟨t3, hgo t3 a1, b1⟩
end TWC
/-- a method's contract out of its walk -/
theorem tmet {α : Type} {l : Launch} {Z : tZ} {y : MethodName} {cc : ByteArray} {nL : Nat} {ret : Option FieldType} {d : Nat} {av : List Value} {t : tSt} {f : Option (α × tSt)} {ρ : α → Option Value} (hj : tInj Z) (hy : plainName y.cls = true) (hlen : (lg_sl av).length ≤ nL) (hcat : ∀ q ∈ lv_args 0 av, q.2.category = 1)
    (body : ∀ X : gCx, gLn X = l → tOk X Z y.cls cc d → gLoc X = nL → gRet X = ret → GF X (tM Z X nL ρ) f t 0 (lv_args 0 av) []) : ∀ (r : α) (t' : tSt), f = some (r, t') → tCt l Z y cc nL ret d av t (ρ r) t' := by
  intro r t' h
  refine Met.ofW (cc := cc) (maxL := nL) (ret := ret) hy rfl ?_
  intro p e s m args below meth c s₁ B hml hv
  obtain ⟨rfl, hI, hK⟩ := hv
  have hts := atoms_spec (ws := ws_ y cc nL ret) B.pre
  have hts : ∀ w ∈ lw_all, w.before _ s = true := fun w h => hts w (List.mem_cons_of_mem _ h)
  have hown : s.vm.findClass y.cls = some m.cls := findClass_of_methodNamed B.named
  have hl := lv_entry av (n := nL) hlen
  obtain ⟨-, h2⟩ := body (p, l, e, ({ frames := d, cells := 0, slots := 0, locals := 64 * d } : Room), s, m, av.toArray, below, meth, c) rfl ⟨⟨B.exec, B.bytes, hown, hts, B.notSynchronized⟩, hK, hj, Nat.le_refl _, Nat.le_refl _⟩ hml B.returns r t' h
  rw [lg_entry_eq]
  exact h2 0 0 0 0 s.heap [] _ (Nat.le_refl _) (Nat.le_refl _) (Nat.le_refl _) (Nat.le_refl _) hI va_S.rf ⟨hl, hcat⟩
theorem lv_args_cat {av : List Value} (h : ∀ v ∈ av, v.category = 1) : ∀ q ∈ lv_args 0 av, q.2.category = 1 := by
  have key : ∀ (av : List Value) (i : Nat), (∀ v ∈ av, v.category = 1) → ∀ q ∈ lv_args i av, q.2.category = 1 := by
    intro av
    induction av with
    | nil => intro i _ q hq; cases hq
    | cons a l ih =>
      intro i h q hq
      unfold lv_args at hq
      rcases List.mem_cons.mp hq with e | e
      · rw [e]; exact h a List.mem_cons_self
      · exact ih _ (fun v hv => h v (List.mem_cons_of_mem _ hv)) q e
  exact key av 0 h
theorem nar_z {x : Int32} (h : x = nI 0 ∨ x = nI 1) : narrow .boolean (.int x) = .int x := by
  rcases h with h | h <;> rw [h] <;> decide
def FU : Nat := 4096
