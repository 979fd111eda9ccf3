/-! THE COMPONENT: dealing -/
section CDD
variable {P : Nat → Prop} {t t' : cS} {w i j x p : Nat} {A : Nat → Nat} {W : aW} {m : Int32 × Int32}
/-- after a deal or a step: the failures are counted -/
def Pd (P : Nat → Prop) (w : Nat) (A : Nat → Nat) (t t' : cS) (W W' : aW) (why : Int32) (k s : Nat) : Prop :=
  CW P t' w A W' ∧ Fr P t t' ∧ (cI t' 17 w = if why = nI 0 then cI t 17 w else cI t 17 w + nI 1) ∧ cn t' + Ph W' ≤ cn t + Ph W + k ∧ cz t' + 3 * Ph W' ≤ cz t + 3 * Ph W + s
/-- the clock goes on, the log too -/
theorem cw_log {N : Nat} {y : Int32} (h : CW P t w A W) (hN : aG W 1 = nI N) (hN2 : N < 2 ^ 30) : Po P w A t (sI (sI (sI t 9 w (aG W 1 + nI 1)) (ei (N % 30)) (w + 3) y) 15 w (aG W 1 + nI 1)) W (aLogged (uG W 1 (aG W 1 + nI 1)) y) 0 0 := by
  obtain ⟨⟨a1, a2⟩, ⟨b1, b2, b3, b4, b5, b6, b7, b8⟩, c, d⟩ := h.w1
  obtain ⟨⟨l1, l2, l3⟩, l4⟩ := h.w3
  have m2 : cMut (cK t w) = true := by rw [a1]; rfl
  have m3 : cMut (cK t (w + 3)) = true := by rw [l1]; rfl
  have f1 : Fr (fun y => y = w ∨ y = w + 3) t (sI t 9 w (aG W 1 + nI 1)) := fr_sI h.wf (Or.inl rfl) m2
  have f2 : Fr (fun y => y = w ∨ y = w + 3) t (sI (sI t 9 w (aG W 1 + nI 1)) (ei (N % 30)) (w + 3) y) := f1.then (fr_sI f1.1.2 (Or.inr rfl) m3)
  have f3 : Fr (fun y => y = w ∨ y = w + 3) t (sI (sI (sI t 9 w (aG W 1 + nI 1)) (ei (N % 30)) (w + 3) y) 15 w (aG W 1 + nI 1)) := f2.then (fr_sI f2.1.2 (Or.inl rfl) m2)
  have g : ∀ f, f ≠ 9 → f ≠ 15 → cI (sI (sI (sI t 9 w (aG W 1 + nI 1)) (ei (N % 30)) (w + 3) y) 15 w (aG W 1 + nI 1)) f w = cI t f w := fun f h1 h2 => by
    rw [sI_I, if_neg (fun z => h2 z.1), sI_I, if_neg (fun z => by have := z.2; omega), sI_I, if_neg (fun z => h1 z.1)]
  have e : ∀ j, cI (sI (sI (sI t 9 w (aG W 1 + nI 1)) (ei (N % 30)) (w + 3) y) 15 w (aG W 1 + nI 1)) (ei j) (w + 3) = if j = N % 30 then y else cI t (ei j) (w + 3) := fun j => by
    rw [sI_I, if_neg (fun z => by have := z.2; omega), sI_I]
    by_cases cj : j = N % 30
    · rw [if_pos ⟨by rw [cj], rfl⟩, if_pos cj]
    · rw [if_neg (fun z => by have := z.1; unfold ei at this; omega), if_neg cj, sI_I, if_neg (fun z => by have := z.2; omega)]
  have ecl : (aG W 1).toNatClampNeg = N := by rw [hN, nI_clamp (by omega)]
  have ecl2 : (aG W 1 + nI 1).toNatClampNeg = N + 1 := by rw [hN, nI_add, nI_clamp (by omega)]
  have eG : ∀ j, aG (aLogged (uG W 1 (aG W 1 + nI 1)) y) j = if j = 1 then aG W 1 + nI 1 else aG W j := fun j => rfl
  refine ⟨h.frWL f3 ⟨rfl, rfl, rfl, rfl⟩ ⟨⟨a1, a2⟩, ⟨?_, ?_, ?_, ?_, ?_, ?_, ?_, ?_⟩, c, d.1.st h.wf f3, d.2⟩ ⟨⟨l1, l2, l3⟩, ?_⟩, f3.mono (fun y _ z => by rcases z with z | z <;> rw [z]; exact a2; exact l2), ⟨g 17 (by decide) (by decide), g 18 (by decide) (by decide)⟩, Nat.le_refl _, Nat.le_refl _⟩
  · rw [g 7 (by decide) (by decide)]; exact b1
  · rw [g 8 (by decide) (by decide), eG, if_neg (by decide)]; exact b2
  · rw [sI_I, if_neg (by omega), sI_I, if_neg (fun z => by have := z.2; omega), sI_I, if_pos ⟨rfl, rfl⟩, eG, if_pos rfl]
  · rw [g 10 (by decide) (by decide), eG, if_neg (by decide)]; exact b4
  · rw [g 11 (by decide) (by decide), eG, if_neg (by decide)]; exact b5
  · rw [g 13 (by decide) (by decide), eG, if_neg (by decide)]; exact b6
  · rw [sI_I, if_pos ⟨rfl, rfl⟩, eG, if_pos rfl]
  · rw [g 19 (by decide) (by decide), eG, if_neg (by decide)]; exact b8
  · rw [eG, if_pos rfl, ecl2]
    rw [ecl] at l4
    exact Lg.push l4 (by rw [e, if_pos rfl]) (fun j _ hj => by rw [e, if_neg hj])
theorem cw_deals {tm N : Nat} (h : CW P t w A W) (hI : aI W tm) (h9 : aI9 W 12) (hi : i < aN W) (hl : aF W i 5 = nI 1) (hx : Vm t x m) (hm : mOk (aN W) m) (hN : aG W 1 = nI N) (hN2 : N < 2 ^ 30) : Ok (fX1_deals w (some (A i)) (some x) t) (fun r t' => r = (aDeals W i m).2 ∧ Pd P w A t t' W (aDeals W i m).1 (aDeals W i m).2 90 422) := by
  have fw := h.fw
  have fa := h.fa hi
  obtain ⟨-, ⟨b1, b2, b3, b4, b5, b6, b7, b8⟩, -, -⟩ := h.w1
  have hx0 : cK t x ≠ 0 := by
    rcases hx with ⟨k, -⟩ | ⟨k, -⟩ <;> rw [k] <;> decide
  unfold fX1_deals
  refine ok_gd fw.1 (ok_letv ?_)
  rw [b3]
  refine ok_gd fw.1 (ok_letv ?_)
  refine ok_gd fw.1 (ok_letv ?_)
  refine ok_gd fw.1 (ok_letv ?_)
  refine ok_rv rfl ?_
  refine ok_gd fa.2.2.1 (ok_letv ?_)
  refine ok_rv rfl ?_
  have hal := h.lt fa.2.2.1 (by decide)
  have f1 : Fr (fun y => y = w) t (sI t 9 w (aG W 1 + nI 1)) := fr_sI h.wf rfl (by rw [fw.1]; rfl)
  have hx1 := Vm_st _ _ _ _ _ h.wf f1 hx
  refine ok_obE (cw_code (n := 0) hx1) ?_
  have e14 : cR (sI t 9 w (aG W 1 + nI 1)) 14 w = some (w + 3) := fw.2.2.2.2.1
  refine ok_rv e14 ?_
  have e15 : cI (sI t 9 w (aG W 1 + nI 1)) 15 w = nI N := by rw [sI_I, if_neg (by omega), b7, hN]
  have e26 : cI (sI t 9 w (aG W 1 + nI 1)) 26 (A i) = nI i := by rw [sI_I, if_neg (by omega)]; exact fa.2.2.2.1.1
  have erm : irm (nI N) (nI 30) = nI (N % 30) := irm_n (by omega) (by omega) (by omega)
  have hm30 : N % 30 < 30 := Nat.mod_lt _ (by omega)
  have ecl : (nI (N % 30)).toNatClampNeg = N % 30 := nI_clamp (by omega)
  rw [e15, e26, erm]
  refine ok_gd ⟨h.w3.1.1, by show ¬ nI (N % 30) < nI 0; exact nI_nlt (Nat.zero_le _) (by omega), by rw [ecl]; show N % 30 < cL t (w + 3); rw [h.w3.1.2.2]; exact hm30⟩ (ok_letv ?_)
  rw [ecl]
  have ewd : nI 1000 * nI i + nI 300 + aCode m.2 = aWord i m.2 := by
    unfold aWord
    rw [Int32.add_assoc, Int32.add_comm (nI 300), ← Int32.add_assoc]
  rw [ewd]
  refine ok_gd fw.1 (ok_letv ?_)
  have e15b : cI (sI (sI t 9 w (aG W 1 + nI 1)) (ei (N % 30)) (w + 3) (aWord i m.2)) 15 w = aG W 1 := by
    rw [sI_I, if_neg (fun z => by have := z.2; omega), sI_I, if_neg (by omega)]; exact b7
  rw [e15b]
  refine ok_gd fw.1 (ok_letv ?_)
  have p1 := cw_log (y := aWord i m.2) h hN hN2
  have c1 := p1.1
  refine ok_gd c1.fw.1 ?_
  have i1 : aI (aLogged (uG W 1 (aG W 1 + nI 1)) (aWord i m.2)) tm := aI_logged (hI.setG (by decide) (fun q => absurd q (by decide)))
  have n9 : aI9 (aLogged (uG W 1 (aG W 1 + nI 1)) (aWord i m.2)) 12 := aI9_of h9 rfl (fun _ => rfl)
  have hx2 := Vm_st _ _ _ _ _ h.wf p1.2.1 hx
  generalize sI (sI (sI t 9 w (aG W 1 + nI 1)) (ei (N % 30)) (w + 3) (aWord i m.2)) 15 w (aG W 1 + nI 1) = t1 at p1 c1 hx2 ⊢
  refine ok_obx (cw_does (i := i) c1 i1 hi hx2 hm) (fun r t2 z => ?_) (fun e t2 z => ?_)
  · obtain ⟨z1, z2⟩ := z
    have z1 : (aDeals W i m).2 = nI 0 := z1
    refine ok_some ⟨z1.symm, ?_⟩
    obtain ⟨y1, y2, y3, y4, y5⟩ := p1.trans z2
    exact ⟨y1, y2, by rw [if_pos z1]; exact y3.1, Nat.le_trans y4 (by omega), Nat.le_trans y5 (by omega)⟩
  · obtain ⟨z1, why, n, hw, n0, n10, z2, z3⟩ := z
    have c2 := z1.1
    obtain ⟨e0, ee, ⟨k1, k2, k3, k4⟩, -⟩ := id z3
    cases ee
    refine ok_gd k1 ?_
    refine ok_gd c2.fw.1 ?_
    refine ok_ob (cw_fails c2 i1 n9 hi hl z3) (fun _ t3 y => ?_)
    obtain ⟨y1, y2, y3, y4, y5⟩ := y
    have e58 := (y2.immK c2.wf k1 (by decide) rfl)
    refine ok_gd (e58.1.trans k1) (ok_letv ?_)
    have eD : aDeals W i m = ((aFails (aLogged (uG W 1 (aG W 1 + nI 1)) (aWord i m.2)) i why 0).1, why) := z2
    have eb := aFails_b (aLogged (uG W 1 (aG W 1 + nI 1)) (aWord i m.2)) i why (cI t2 18 w) 0
    rw [eb] at y1 y4 y5
    rw [eD]
    obtain ⟨x1, x2, x3, x4, x5⟩ := p1.trans z1
    refine ok_some ⟨by rw [e58.2.2.1 58]; exact k3, y1, x2.then y2, ?_, ?_, ?_⟩
    · rw [if_neg (by rw [hw]; exact nI_ne (by omega) (by omega) (by omega)), y3.1, x3.1]
    · show cn t3 + Ph (aFails _ i why 0).1 ≤ _
      omega
    · show cz t3 + 3 * Ph (aFails _ i why 0).1 ≤ _
      omega
end CDD
