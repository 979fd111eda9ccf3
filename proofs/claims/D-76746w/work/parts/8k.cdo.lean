/-! THE COMPONENT: one does what it does -/
section CDO
variable {P : Nat → Prop} {t t' : cS} {w i j x p : Nat} {A : Nat → Nat} {W : aW} {m : Int32 × Int32}
def dsQ (P : Nat → Prop) (w : Nat) (A : Nat → Nat) (t : cS) (W : aW) (i : Nat) (m : Int32 × Int32) : Unit ⊕ Nat → cS → Prop := fun r t' => match r with
  | .inl _ => (aDeal W i m).2 = nI 0 ∧ Po P w A t t' W (aDeal W i m).1 38 240
  | .inr e => Po P w A t t' W W 38 240 ∧ ∃ why n, why = nI n ∧ 0 < n ∧ n < 10 ∧ aDeal W i m = ((aFails W i why 0).1, why) ∧ Fc t' [(nI i, why)] (some e)
theorem cw_wrap {e k : Nat} {y : Int32} {Q : Unit ⊕ Nat → cS → Prop} (h : CW P t w A W) (hi : i < aN W) (he : cK t e = k) (hk : (k = 11 ∧ y = nI 3) ∨ (k = 12 ∧ y = nI 4)) (kk : ∀ e' t', Po P w A t t' W W 1 8 → Fc t' [(nI i, y)] (some e') → Q (.inr e') t') :
    Ok (letv (sN t 10 0 8) (fun s22 => gd (cK s22 (A i) = 5) (letv (cI s22 26 (A i)) (fun x23 => ob (fD_why e s22) (fun r24 s25 => ob (fX11_init_2 (cn t) x23 r24 (some e) s25) (fun _ s27 => gd (cK s27 (cn t) = 10) (some (.inr (cn t), s27)))))))) Q := by
  have fa := h.fa hi
  have hal := h.lt fa.2.2.1 (by decide)
  have hel : e < cn t := h.wf.lt (by rw [he]; omega)
  have k5 : cK (sN t 10 0 8) (A i) = 5 := by rw [sN_K, if_neg (by omega)]; exact fa.2.2.1
  have e26 : cI (sN t 10 0 8) 26 (A i) = nI i := by rw [sN_I, if_neg (by omega)]; exact fa.2.2.2.1.1
  have ke : cK (sN t 10 0 8) e = k := by rw [sN_K, if_neg (by omega)]; exact he
  refine ok_letv (ok_gd k5 (ok_letv ?_))
  rw [e26]
  have ew : fD_why e (sN t 10 0 8) = some (y, sN t 10 0 8) := by
    unfold fD_why fX13_why fX14_why
    rw [ke]
    rcases hk with ⟨rfl, rfl⟩ | ⟨rfl, rfl⟩
    · rfl
    · rfl
  refine ok_obE ew ?_
  obtain ⟨t1, d1, d2, d3, d4, d5⟩ := new_failure (t := t) (a := nI i) (y := y) (c := some e) h.wf h.g
  refine ok_obE d1 ?_
  refine ok_gd d3.1 ?_
  refine ok_some (kk _ _ (Po.ne h d2 (Nat.le_of_eq d4) (Nat.le_of_eq d5)) ⟨cn t, rfl, ⟨d3.1, d3.2.1, d3.2.2.1, ?_⟩, ?_⟩)
  · rw [d3.2.2.2]
    exact fun q => by have := Option.some.inj q; omega
  · refine Or.inr ⟨e, d3.2.2.2, ?_⟩
    have := (d2.immK h.wf he (by omega) (by rcases hk with ⟨rfl, -⟩ | ⟨rfl, -⟩ <;> rfl)).1
    rw [this, he]
    rcases hk with ⟨rfl, -⟩ | ⟨rfl, -⟩
    · exact Or.inl rfl
    · exact Or.inr rfl
theorem add_100 (x k : Int32) : x + (nI 100 + k) = x + nI 100 + (nI 1000 + k) - nI 1000 := by
  rw [Int32.add_comm (nI 1000) k, ← Int32.add_assoc (x + nI 100) k (nI 1000), Int32.add_sub_cancel, Int32.add_assoc]
theorem cw_does {tm : Nat} (h : CW P t w A W) (hI : aI W tm) (hi : i < aN W) (hx : Vm t x m) (hm : mOk (aN W) m) : Ok (fX1_does w (some (A i)) (some x) t) (dsQ P w A t W i m) := by
  have hN : aN W ≤ 12 := h.sp.1
  have fw := h.fw
  have fa := h.fa hi
  have hal := h.lt fa.2.2.1 (by decide)
  obtain ⟨l, b, -, hb, ed⟩ := hI.stk hi
  have hdo := cw_does5 h hI hi
  unfold fX1_does
  rw [onul_s]
  rcases hx with ⟨x1, x2, x3, x4⟩ | ⟨x1, x2, x3, k, hk, x4, x5⟩
  · obtain ⟨m1, m2, m3⟩ := mOk_lt hm hN x4
    refine ok_gd (Or.inr x1) (ok_letv ?_)
    refine ok_ift (by rw [if_neg (by rw [x1]; decide)]; rfl) ?_
    refine ok_gd fw.1 (ok_letv ?_)
    refine ok_rv rfl ?_
    refine ok_gd fa.2.2.1 ?_
    refine ok_obE hdo ?_
    refine ok_rv fw.2.2.2.2.2.1 ?_
    refine ok_gd fw.2.2.2.2.2.2.2.1 ?_
    rw [ed]
    obtain ⟨f, t1, e1, p1, e3, e4⟩ := cw_of h hb
    refine ok_obE e1 ?_
    have hx1 : Mo t1 x m := Mo.st ⟨x1, x2, x3⟩ h.wf p1.2.1
    refine ok_gd hx1.1 ?_
    refine ok_rv rfl ?_
    have c1 := p1.1
    refine ok_obx (cw_lamdeals c1 hI hi hb ed e3 e4 hx1 x4 m1 m2 m3) (fun r t2 z => ?_) (fun e t2 z => ?_)
    · obtain ⟨z1, z2⟩ := z
      exact ok_some ⟨z1, (p1.trans z2).le (by omega) (by omega)⟩
    · obtain ⟨z2, z3⟩ := z
      have c2 := z2.1
      have p2 := p1.trans z2
      rcases z3 with ⟨z3, z4⟩ | ⟨z3, z4⟩ | ⟨z3, z4⟩
      · obtain ⟨e0, ee, ⟨k1, -⟩, -⟩ := id z4
        cases ee
        refine ok_ift k1 ?_
        exact ok_some ⟨p2.le (by omega) (by omega), nI 1, 1, rfl, by omega, by omega, z3, z4⟩
      · refine ok_iff (by rw [z4]; decide) ?_
        refine ok_ift z4 ?_
        refine cw_wrap c2 hi z4 (Or.inl ⟨rfl, rfl⟩) (fun e' t' y1 y2 => ?_)
        exact ⟨(p2.trans y1).le (by omega) (by omega), nI 3, 3, rfl, by omega, by omega, z3, y2⟩
      · refine ok_iff (by rw [z4]; decide) ?_
        refine ok_iff (by rw [z4]; decide) ?_
        refine ok_gd z4 ?_
        refine cw_wrap c2 hi z4 (Or.inr ⟨rfl, rfl⟩) (fun e' t' y1 y2 => ?_)
        exact ⟨(p2.trans y1).le (by omega) (by omega), nI 4, 4, rfl, by omega, by omega, z3, y2⟩
  · have hd : ¬ m.2 < nI 1000 := by
      rw [x5, nI_add]
      exact nI_nlt (by omega) (by omega)
    refine ok_gd (Or.inl x1) (ok_letv ?_)
    refine ok_iff (by rw [if_pos x1]; decide) ?_
    refine ok_gd x1 ?_
    refine ok_rv rfl ?_
    refine ok_gd fa.2.2.1 ?_
    refine ok_obE hdo ?_
    by_cases c : aDoes W i = nI 5
    · refine ok_ift c ?_
      have k5 : cK (sN t 10 0 8) (A i) = 5 := by rw [sN_K, if_neg (by omega)]; exact fa.2.2.1
      have e26 : cI (sN t 10 0 8) 26 (A i) = nI i := by rw [sN_I, if_neg (by omega)]; exact fa.2.2.2.1.1
      refine ok_letv (ok_gd k5 (ok_letv ?_))
      rw [e26]
      obtain ⟨t1, d1, d2, d3, d4, d5⟩ := new_failure (t := t) (a := nI i) (y := nI 2) (c := none) h.wf h.g
      have d1' : fX11_init (cn t) (nI i) (nI 2) (sN t 10 0 8) = some ((), t1) := by
        unfold fX11_init
        rw [d1]
        rfl
      refine ok_obE d1' ?_
      refine ok_gd d3.1 ?_
      refine ok_some ⟨(Po.ne h d2 (Nat.le_of_eq d4) (Nat.le_of_eq d5)).le (by omega) (by omega), nI 2, 2, rfl, by omega, by omega, aDeal_d5 hd c, cn t, rfl, ⟨d3.1, d3.2.1, d3.2.2.1, by rw [d3.2.2.2]; exact fun q => by cases q⟩, Or.inl d3.2.2.2⟩
    · refine ok_iff c ?_
      refine ok_gd fa.2.2.1 (ok_letv ?_)
      refine ok_gd x1 (ok_letv ?_)
      refine ok_gd fa.2.2.1 (ok_letv ?_)
      rw [fa.2.2.2.1.2.2.2.2.2.2.2.1, x4, add_100, ← x5]
      refine ok_some ?_
      show (aDeal W i m).2 = nI 0 ∧ _
      rw [aDeal_d hd c]
      exact ⟨rfl, (Po.a6 h hi).le (by omega) (by omega)⟩
end CDO
