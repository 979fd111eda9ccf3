/-! THE COMPONENT: a step -/
section CSTEP
variable {P : Nat → Prop} {t t' : cS} {w i j x p : Nat} {A : Nat → Nat} {W : aW} {m : Int32 × Int32} {tm : Nat}
/-- the latest; the time -/
theorem Po.g3 {y : Int32} (h : CW P t w A W) : Po P w A t (sI t 8 w y) W (uG W 3 y) 0 0 := by
  obtain ⟨⟨a1, a2⟩, ⟨b1, b2, b3, b4, b5, b6, b7, b8⟩, c, d⟩ := h.w1
  have m : cMut (cK t w) = true := by rw [a1]; rfl
  have f : Fr (fun y => y = w) t (sI t 8 w y) := fr_sI h.wf rfl m
  have g : ∀ f, f ≠ 8 → cI (sI t 8 w y) f w = cI t f w := fun f hf => by rw [sI_I, if_neg (fun z => hf z.1)]
  refine ⟨h.frW f ⟨rfl, rfl, rfl, rfl, rfl, rfl⟩ ⟨⟨a1, a2⟩, ⟨?_, ?_, ?_, ?_, ?_, ?_, ?_, ?_⟩, c, d.1.st h.wf f, d.2⟩, f.mono (fun y _ e => by rw [e]; exact a2), ⟨g 17 (by decide), g 18 (by decide)⟩, Nat.le_refl _, Nat.le_refl _⟩
  · rw [g 7 (by decide)]; exact b1
  · rw [sI_I, if_pos ⟨rfl, rfl⟩]; rfl
  · rw [g 9 (by decide)]; exact b3
  · rw [g 10 (by decide)]; exact b4
  · rw [g 11 (by decide)]; exact b5
  · rw [g 13 (by decide)]; exact b6
  · rw [g 15 (by decide)]; exact b7
  · rw [g 19 (by decide)]; exact b8
theorem Po.g0 {y : Int32} (h : CW P t w A W) : Po P w A t (sI t 10 w y) W (uG W 0 y) 0 0 := by
  obtain ⟨⟨a1, a2⟩, ⟨b1, b2, b3, b4, b5, b6, b7, b8⟩, c, d⟩ := h.w1
  have m : cMut (cK t w) = true := by rw [a1]; rfl
  have f : Fr (fun y => y = w) t (sI t 10 w y) := fr_sI h.wf rfl m
  have g : ∀ f, f ≠ 10 → cI (sI t 10 w y) f w = cI t f w := fun f hf => by rw [sI_I, if_neg (fun z => hf z.1)]
  refine ⟨h.frW f ⟨rfl, rfl, rfl, rfl, rfl, rfl⟩ ⟨⟨a1, a2⟩, ⟨?_, ?_, ?_, ?_, ?_, ?_, ?_, ?_⟩, c, d.1.st h.wf f, d.2⟩, f.mono (fun y _ e => by rw [e]; exact a2), ⟨g 17 (by decide), g 18 (by decide)⟩, Nat.le_refl _, Nat.le_refl _⟩
  · rw [g 7 (by decide)]; exact b1
  · rw [g 8 (by decide)]; exact b2
  · rw [g 9 (by decide)]; exact b3
  · rw [sI_I, if_pos ⟨rfl, rfl⟩]; rfl
  · rw [g 11 (by decide)]; exact b5
  · rw [g 13 (by decide)]; exact b6
  · rw [g 15 (by decide)]; exact b7
  · rw [g 19 (by decide)]; exact b8
theorem cw_steps {N : Nat} (h : CW P t w A W) (hI : aI W tm) (h9 : aI9 W 12) (hN : aG W 1 = nI N) (hN2 : N < 2 ^ 30) : Ok (fX1_steps w t) (fun r t' => r = (if aNext W = none ∧ aT W = [] then nI 0 else nI 1) ∧ Pd P w A t t' W (aStep W).1 (aStep W).2.1 92 430) := by
  have hA : aN W ≤ 12 := h.sp.1
  have fw := h.fw
  unfold fX1_steps
  refine ok_gd fw.1 ?_
  refine ok_obE (cw_next h hI) ?_
  cases ea : aNext W with
  | none =>
    rw [Option.map_none, onul_n]
    refine ok_gd fw.1 (ok_letv ?_)
    refine ok_rv fw.2.2.2.1 ?_
    refine ok_gd fw.2.2.2.2.2.2.1 (ok_letv ?_)
    have ht : (aT W).length ≤ 10 := hI.2.2.2.2.1.1
    have e24 : cI t 24 (w + 2) = nI (aT W).length := by rw [h.tm.len, tSo_len]
    rw [e24]
    by_cases c : aT W = []
    · refine ok_ift (by rw [c]; rfl) ?_
      have eS : aStep W = (W, nI 0, none) := by
        unfold aStep
        rw [ea, c]
        rfl
      rw [eS, if_pos ⟨rfl, c⟩]
      obtain ⟨y1, y2, y3, y4, y5⟩ := Po.rf h
      exact ok_some ⟨rfl, y1, y2, by rw [if_pos rfl], Nat.le_trans y4 (by omega), Nat.le_trans y5 (by omega)⟩
    · have hpos := List.length_pos_iff.mpr c
      refine ok_iff (by rw [show (0 : Int32) = nI 0 from rfl]; exact nI_ne (by omega) (by omega) (by omega)) ?_
      rw [if_neg (fun z => c z.2)]
      refine ok_gd fw.1 (ok_letv ?_)
      refine ok_rv fw.2.2.2.1 ?_
      refine ok_gd fw.2.2.2.2.2.2.1 ?_
      obtain ⟨z, hz, eso⟩ := tSo_min c
      rw [aStep_tim ea hz]
      obtain ⟨cs, q1, q2⟩ := h.tm
      have lq : cs.length = (aT W).length := by rw [← List.length_map Prod.snd, q2.len, tSo_len]
      rw [eso] at q2
      obtain ⟨⟨j, hj, ej⟩, -, n1, n2⟩ := hI.2.2.2.2.1.2 z (List.mem_of_getElem? hz)
      cases cs with
      | nil => exact q2.elim
      | cons d cs =>
        rw [List.length_cons] at lq
        obtain ⟨qd, qr⟩ := q2
        refine ok_ob (qr_takes q1 h.wf (by omega)) (fun r t1 y => ?_)
        obtain ⟨rfl, r1, f1, e1, e2⟩ := y
        have f1' : Fr (Qc (w + 2) (d :: cs)) t t1 := f1.mono (fun y _ z => Or.inl z)
        have c1 := h.frT q1 f1' (xs := (aT W).eraseIdx (aMin (aT W))) ⟨cs, r1, qr.st Vt_st h.wf f1⟩
        have p1 : Po P w A t t1 W (uT W ((aT W).eraseIdx (aMin (aT W)))) 0 0 := ⟨c1, Fr.ofQ q1 f1', h.k2 q1 f1', by
          have : Ph (uT W ((aT W).eraseIdx (aMin (aT W)))) = Ph W := Ph_eq rfl (fun _ _ => ⟨rfl, rfl⟩)
          omega, by
          have : Ph (uT W ((aT W).eraseIdx (aMin (aT W)))) = Ph W := Ph_eq rfl (fun _ _ => ⟨rfl, rfl⟩)
          omega⟩
        have qd1 := Vt_st _ _ _ _ _ h.wf f1 qd
        refine ok_rv rfl ?_
        refine ok_gd qd1.1 ?_
        refine ok_gd qd1.1 (ok_letv ?_)
        rw [qd1.2.2.1]
        refine ok_gd c1.fw.1 (ok_letv ?_)
        have p2 := Po.g0 (y := z.2.1) c1
        have c2 := p2.1
        have qd2 := Vt_st _ _ _ _ _ c1.wf p2.2.1 qd1
        generalize sI t1 10 w z.2.1 = t2 at p2 c2 qd2 ⊢
        have fw2 := c2.fw
        have fj2 := c2.fa (i := j) hj
        refine ok_gd fw2.1 (ok_letv ?_)
        refine ok_gd qd2.1 (ok_letv ?_)
        rw [qd2.2.1, ej]
        refine ok_rv fw2.2.1 ?_
        refine ok_gd ⟨fw2.2.2.2.2.2.2.2.2.2, fj2.1⟩ (ok_letv ?_)
        rw [fj2.2.1]
        refine ok_letv ?_
        have hdl : d.2 < cn t2 := c2.wf.lt (by rw [qd2.1]; decide)
        have k13 : cK (sN t2 6 0 2) d.2 = 13 := by rw [sN_K, if_neg (by omega)]; exact qd2.1
        have e61 : cI (sN t2 6 0 2) 61 d.2 = z.2.2 := by rw [sN_I, if_neg (by omega)]; exact qd2.2.2.2
        refine ok_gd k13 (ok_letv ?_)
        rw [e61, nI_clamp (by omega)]
        have hlive : aF W j 5 = nI 0 ∨ aF W j 5 = nI 1 := hI.live hj
        have hcap : (aL W j 1).length ≤ 12 := (hI.act hj).2.2.1.1
        refine cw_msg (W := uG (uT W ((aT W).eraseIdx (aMin (aT W)))) 0 z.2.1) (v := -1) (n := z.2.2) c2 hj hlive hcap (lt_1000 (by omega)) (fun r t3 y => ok_some ⟨rfl, ?_⟩)
        obtain ⟨y1, y2, y3, y4, y5⟩ := p1.trans (p2.trans y)
        exact ⟨y1, y2, by rw [if_pos rfl]; exact y3.1, Nat.le_trans y4 (by omega), Nat.le_trans y5 (by omega)⟩
  | some a =>
    obtain ⟨g0, g1, g2, g3⟩ := aNextN_some _ _ ea
    rw [Option.map_some, onul_s, if_neg (fun z => by cases z.1)]
    have fa := h.fa g1
    obtain ⟨m, l, hml⟩ : ∃ m l, aL W a 1 = m :: l := by
      cases hq : aL W a 1 with
      | nil => exact absurd hq g3
      | cons m l => exact ⟨m, l, rfl⟩
    rw [aStep_act ea hml]
    refine ok_gd fa.2.2.1 (ok_letv ?_)
    rw [fa.2.2.2.1.1]
    refine ok_gd fw.1 (ok_letv ?_)
    have p0 := Po.g3 (y := nI a) h
    have c0 := p0.1
    generalize sI t 8 w (nI a) = t0 at p0 c0 ⊢
    have fa0 := c0.fa (i := a) g1
    refine ok_gd fa0.2.2.1 (ok_letv ?_)
    refine ok_rv fa0.2.2.2.2.1.2.2.1 ?_
    refine ok_gd fa0.2.2.2.2.2.2.1 ?_
    obtain ⟨cs, q1, q2⟩ := c0.que (i := a) g1 (k := 1) (by omega)
    have q2 : Al (qV 1 t0) (cs.map Prod.snd) (aL W a 1) := q2
    have g := hI.act g1
    have lq : cs.length = (aL W a 1).length := by rw [← List.length_map Prod.snd, q2.len]
    have hcap := g.2.2.1.1
    rw [hml] at q2 lq
    cases cs with
    | nil => exact q2.elim
    | cons d cs =>
      rw [List.length_cons] at lq
      obtain ⟨qd, qr⟩ := q2
      have qd : Vm t0 d.2 m := qd
      refine ok_ob (qr_takes q1 c0.wf (by rw [List.length_cons] at lq; rw [hml, List.length_cons] at hcap; omega)) (fun r t1 y => ?_)
      obtain ⟨rfl, r1, f1, e1, e2⟩ := y
      have f1' : Fr (Qc (A a + 1 + 1) (d :: cs)) t0 t1 := f1.mono (fun y _ z => Or.inl z)
      have p1 : Po P w A t0 t1 (uG W 3 (nI a)) (uL (uG W 3 (nI a)) a 1 l) 0 0 := Po.q c0 g1 (Or.inl rfl) q1 f1' ⟨cs, r1, qr.st (V := fun t => qV 1 t) Vm_st c0.wf f1⟩ (by omega) (by omega)
      have eW : uL (uG W 3 (nI a)) a 1 l = uG (uL W a 1 l) 3 (nI a) := rfl
      rw [eW] at p1
      have c1 := p1.1
      have qd1 := Vm_st _ _ _ _ _ c0.wf f1 qd
      refine ok_rv rfl ?_
      refine ok_gd (by rcases qd1 with ⟨k, -⟩ | ⟨k, -⟩; exact Or.inl k; exact Or.inr k) ?_
      refine ok_gd c1.fw.1 ?_
      have i1 : aI (uL W a 1 l) tm := hI.setL fun hq => g.set1 (by rw [hml, List.length_cons] at hcap; omega) (fun q hq => g.2.2.1.2 q (by rw [hml]; exact List.mem_cons_of_mem _ hq)) (fun q => by rw [g2] at q; exact absurd q (by decide))
      have i2 : aI (uG (uL W a 1 l) 3 (nI a)) tm := i1.setG (by decide) (fun _ => Or.inr ⟨a, g0, rfl⟩)
      have n9 : aI9 (uG (uL W a 1 l) 3 (nI a)) 12 := aI9_of h9 rfl (fun b => by
        show aL (uL W a 1 l) b 4 = _
        rw [uL_L, if_neg (by omega)])
      refine ok_ob (cw_deals (i := a) (N := N) c1 i2 n9 g1 g2 qd1 (g.2.2.1.2 m (by rw [hml]; exact List.mem_cons_self)) hN hN2) (fun r t2 y => ok_some ⟨rfl, ?_⟩)
      obtain ⟨-, y1, y2, y3, y4, y5⟩ := y
      obtain ⟨x1, x2, x3, x4, x5⟩ := p0.trans p1
      exact ⟨y1, x2.then y2, by rw [y3, x3.1], Nat.le_trans y4 (by omega), Nat.le_trans y5 (by omega)⟩
end CSTEP
