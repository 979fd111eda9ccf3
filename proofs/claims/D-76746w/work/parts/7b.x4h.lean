/-! THE TWIN: steps and runs -/
def aHs (w : aW) : Prop := ¬ (aNext w = none ∧ aT w = [])
/-- after a step -/
def sQ (t t' : tSt) (R : aW × Int32 × Option Int32) : Prop := Rt (t' 0) R.1 ∧ ((R.2.1 = nI 0 ∧ t' 18 5 = t 18 5) ∨ (¬ R.2.1 = nI 0 ∧ t' 18 5 = nI 1 ∧ t' 4 1 = R.2.1)) ∧ t' 18 7 = R.2.2.getD (-2) ∧ t' 18 18 = t 18 18 ∧ tJ t t'
section X4H
variable {t : tSt} {w : aW} {a tm : Nat}
theorem x4_st185 {v3 v4 : Int32} {b m : Nat} {kx : tSt → Option (Unit × tSt)} {Q : Unit → tSt → Prop} {g0 : Nat → Int32} (hb : 932 ≤ b) (hm : m ≤ 9) (e0 : g0 931 = nI m) : ∀ (n i fuel : Nat) (t : tSt), n < fuel → i + n = 932 + 3 * m → b ≤ i → (∀ j, t 0 j = if b ≤ j ∧ j < i then g0 (j + 3) else g0 j) →
    (∀ t' : tSt, tK t t' → (∀ j, t' 0 j = if b ≤ j ∧ j < 932 + 3 * m then g0 (j + 3) else g0 j) → Ok (kx t') Q) → Ok (fX4_step_L185 v3 v4 kx fuel (nI i) t) Q := by
  intro n
  induction n with
  | zero =>
    intro i fuel t hf hi h1 e k
    obtain ⟨fuel, rfl⟩ : ∃ n, fuel = n + 1 := ⟨fuel - 1, by omega⟩
    rw [fX4_step_L185]
    refine ok_rv (x4_trd (x := nI m) (by decide) (by rw [e, if_neg (by omega)]; exact e0)) ?_
    rw [nI_mul, nI_add]
    refine ok_iff (nI_nlt (by omega) (by omega)) ?_
    have ei : i = 932 + 3 * m := by omega
    rw [ei] at e
    exact k t (tK.rf t) e
  | succ n ih =>
    intro i fuel t hf hi h1 e k
    obtain ⟨fuel, rfl⟩ : ∃ n, fuel = n + 1 := ⟨fuel - 1, by omega⟩
    rw [fX4_step_L185]
    refine ok_rv (x4_trd (x := nI m) (by decide) (by rw [e, if_neg (by omega)]; exact e0)) ?_
    rw [nI_mul, nI_add]
    refine ok_ift (nI_lt (by omega) (by omega)) ?_
    rw [nI_add]
    refine ok_rv (trd_n (by show _ < 1018; omega)) ?_
    refine ok_rv (twr_n (by show _ < 1018; omega)) ?_
    refine ok_letv ?_
    rw [nI_add]
    refine ih (i + 1) fuel _ (by omega) (by omega) (by omega) (fun j => ?_) (fun t' k1 f1 => k t' (tK.trans tK_tup k1) f1)
    rw [tup_0]
    by_cases c : j = i
    · rw [if_pos c, if_pos (by omega), e, if_neg (by omega), c]
    · rw [if_neg c, e]
      by_cases c2 : b ≤ j ∧ j < i
      · rw [if_pos c2, if_pos (by omega)]
      · rw [if_neg c2, if_neg (by omega)]
theorem x4_st45 {v2 v3 : Int32} {m : Nat} {kx : tSt → Option (Unit × tSt)} {Q : Unit → tSt → Prop} {g0 : Nat → Int32} (ha : a < 12) (hm : m ≤ 11) : ∀ (n i fuel : Nat) (t : tSt), n < fuel → i + n = 2 * m → (∀ j, t 0 j = if 77 * a + 14 ≤ j ∧ j < 77 * a + 14 + i then g0 (j + 2) else g0 j) →
    (∀ t' : tSt, tK t t' → (∀ j, t' 0 j = if 77 * a + 14 ≤ j ∧ j < 77 * a + 14 + 2 * m then g0 (j + 2) else g0 j) → Ok (kx t') Q) → Ok (fX4_step_L45 (nI a) v2 v3 (nI m) kx fuel (nI i) t) Q := by
  intro n
  induction n with
  | zero =>
    intro i fuel t hf hi e k
    obtain ⟨fuel, rfl⟩ : ∃ n, fuel = n + 1 := ⟨fuel - 1, by omega⟩
    rw [fX4_step_L45, nI_mul]
    refine ok_iff (nI_nlt (by omega) (by omega)) ?_
    have ei : i = 2 * m := by omega
    rw [ei] at e
    exact k t (tK.rf t) e
  | succ n ih =>
    intro i fuel t hf hi e k
    obtain ⟨fuel, rfl⟩ : ∃ n, fuel = n + 1 := ⟨fuel - 1, by omega⟩
    rw [fX4_step_L45, nI_mul]
    refine ok_ift (nI_lt (by omega) (by omega)) ?_
    refine ok_obE (x4_at (f := 14 + i + 2) (by rw [nI_add, nI_add]) (by omega)) ?_
    refine ok_obE (x4_sets (f := 14 + i) (by rw [nI_add]) (by omega)) ?_
    refine ok_letv ?_
    rw [nI_add]
    refine ih (i + 1) fuel _ (by omega) (by omega) (fun j => ?_) (fun t' k1 f1 => k t' (tK.trans tK_tup k1) f1)
    rw [tup_0]
    by_cases c : j = 77 * a + (14 + i)
    · rw [if_pos c, if_pos (by omega), e, if_neg (by omega), c]
      congr 1
    · rw [if_neg c, e]
      by_cases c2 : 77 * a + 14 ≤ j ∧ j < 77 * a + 14 + i
      · rw [if_pos c2, if_pos (by omega)]
      · rw [if_neg c2, if_neg (by omega)]
theorem aStep_act {m : Int32 × Int32} {l : List (Int32 × Int32)} (ea : aNext w = some a) (hml : aL w a 1 = m :: l) : aStep w = ((aDeals (uG (uL w a 1 l) 3 (nI a)) a m).1, (aDeals (uG (uL w a 1 l) 3 (nI a)) a m).2, some (aWord a m.2)) := by
  unfold aStep
  rw [ea]
  show (match aL w a 1 with
    | [] => (w, nI 0, none)
    | m :: l => ((aDeals (uG (uL w a 1 l) 3 (nI a)) a m).1, (aDeals (uG (uL w a 1 l) 3 (nI a)) a m).2, some (aWord a m.2))) = _
  rw [hml]
theorem aStep_tim {x : Int32 × Int32 × Int32} (ea : aNext w = none) (hx : (aT w)[aMin (aT w)]? = some x) : aStep w = ((aSends (uG (uT w ((aT w).eraseIdx (aMin (aT w)))) 0 x.2.1) x.1.toNatClampNeg (-1, x.2.2)).2, nI 0, none) := by
  unfold aStep
  rw [ea]
  show (match (aT w)[aMin (aT w)]? with
    | none => (w, nI 0, none)
    | some x => ((aSends (uG (uT w ((aT w).eraseIdx (aMin (aT w)))) 0 x.2.1) x.1.toNatClampNeg (-1, x.2.2)).2, nI 0, none)) = _
  rw [hx]
theorem x4_step (h : Rt (t 0) w) (hI : aI w tm) (h9 : aI9 w 12) (hh : aHs w) : Ok (fX4_step t) (fun _ t' => sQ t t' (aStep w)) := by
  have hN := h.n12
  unfold fX4_step
  refine ok_letv ?_
  have e0 : tup t 18 7 (-2 : Int32) 0 = t 0 := tup_z (by decide)
  have h1 : Rt (tup t 18 7 (-2 : Int32) 0) w := by rw [e0]; exact h
  have j1 : tJ t (tup t 18 7 (-2 : Int32)) := ⟨fun k _ _ q => tup_ne q, fun j _ _ q _ _ => by rw [tup_k, if_neg q]⟩
  have f5 : tup t 18 7 (-2 : Int32) 18 5 = t 18 5 := by rw [tup_k, if_neg (by decide)]
  have f7 : tup t 18 7 (-2 : Int32) 18 7 = -2 := by rw [tup_k, if_pos rfl]
  have f18 : tup t 18 7 (-2 : Int32) 18 18 = t 18 18 := by rw [tup_k, if_neg (by decide)]
  generalize tup t 18 7 (-2 : Int32) = t1 at h1 j1 f5 f7 f18 e0
  refine ok_obE (x4_next h1 hI) ?_
  by_cases c : aNext w = none
  · refine ok_ift ((oN_neg (fun a e => (aNextN_some _ _ e).1)).mpr c) ?_
    have hne : aT w ≠ [] := fun q => hh ⟨c, q⟩
    have hc : (aT w).length ≤ 10 := h.2.2.2.1.2.1
    have hm : aMin (aT w) < (aT w).length := aMin_lt hne
    have ef := x4_first h1
    rw [if_neg hne] at ef
    refine ok_obE ef ?_
    refine ok_letv ?_
    obtain ⟨x, hx⟩ : ∃ x, (aT w)[aMin (aT w)]? = some x := ⟨(aT w)[aMin (aT w)], List.getElem?_eq_getElem hm⟩
    rw [aStep_tim c hx]
    show Ok _ (fun _ (t' : tSt) => sQ t t' ((aSends (uG (uT w ((aT w).eraseIdx (aMin (aT w)))) 0 x.2.1) x.1.toNatClampNeg (-1, x.2.2)).2, nI 0, none))
    obtain ⟨x1, x2, x3⟩ := h1.2.2.2.1.2.2 _ _ hx
    have e931 : t1 0 931 = nI (aT w).length := h1.2.2.2.1.1
    obtain ⟨⟨j, hj, ej⟩, -, -, -⟩ := hI.2.2.2.2.1.2 x (List.mem_of_getElem? hx)
    generalize hi : aMin (aT w) = i at hm hx x1 x2 x3 ⊢
    rw [nI_mul, nI_add, nI_add, nI_add]
    refine ok_rv (x4_trd (x := x.1) (by omega) x1) ?_
    refine ok_rv (x4_trd (x := x.2.2) (by omega) (by rw [← x3]; congr 1; omega)) ?_
    refine ok_rv (x4_trd (x := x.2.1) (by omega) (by rw [← x2]; congr 1; omega)) ?_
    refine ok_rv (twr_n (by show _ < 1018; omega)) ?_
    refine ok_rv (x4_trd (x := nI (aT w).length) (by decide) (by rw [tup_0, if_neg (by omega)]; exact e931)) ?_
    rw [nI_sub (by omega)]
    refine ok_rv (twr_n (by show _ < 1018; omega)) ?_
    refine x4_st185 (b := 932 + 3 * i) (m := (aT w).length - 1) (g0 := tup (tup t1 0 925 x.2.1) 0 931 (nI ((aT w).length - 1)) 0) (by omega) (by omega) (by rw [tup_0, if_pos rfl]) (3 * ((aT w).length - 1 - i)) (932 + 3 * i) FU _ (by unfold FU; omega) (by omega) (by omega) (fun q => by rw [if_neg (by omega)]) (fun t2 k2 f2 => ?_)
    have rT : Rt (tup t1 0 925 x.2.1 0) (uG w 0 x.2.1) := h1.setG (by decide) (fun q => tup_0 t1 _ _ q)
    have r2 : Rt (t2 0) (uT (uG w 0 x.2.1) ((aT w).eraseIdx i)) := by
      refine rT.setT (fun q hq => by rw [f2, if_neg (by omega), tup_0, if_neg (by omega)]) ⟨?_, ?_, fun q y hy => ?_⟩
      · rw [f2, if_neg (by omega), tup_0, if_pos rfl, List.length_eraseIdx, if_pos hm]
      · rw [List.length_eraseIdx, if_pos hm]; omega
      · rw [List.getElem?_eraseIdx] at hy
        by_cases cq : q < i
        · rw [if_pos cq] at hy
          have := h1.2.2.2.1.2.2 q y hy
          refine ⟨?_, ?_, ?_⟩
          · rw [f2, if_neg (by omega), tup_0, if_neg (by omega), tup_0, if_neg (by omega)]; exact this.1
          · rw [f2, if_neg (by omega), tup_0, if_neg (by omega), tup_0, if_neg (by omega)]; exact this.2.1
          · rw [f2, if_neg (by omega), tup_0, if_neg (by omega), tup_0, if_neg (by omega)]; exact this.2.2
        · rw [if_neg cq] at hy
          have := h1.2.2.2.1.2.2 (q + 1) y hy
          have hlt := (List.getElem?_eq_some_iff.mp hy).1
          refine ⟨?_, ?_, ?_⟩
          · rw [f2, if_pos (by omega), tup_0, if_neg (by omega), tup_0, if_neg (by omega)]; exact this.1
          · rw [f2, if_pos (by omega), tup_0, if_neg (by omega), tup_0, if_neg (by omega)]; exact this.2.1
          · rw [f2, if_pos (by omega), tup_0, if_neg (by omega), tup_0, if_neg (by omega)]; exact this.2.2
    rw [ej, nI_clamp (by omega)]
    refine ok_ob (x4_sends r2 hj) (fun _ t3 h3 => ?_)
    obtain ⟨-, r3, k3, -⟩ := h3
    have k : tK t1 t3 := tK.trans (tK.trans tK_tup tK_tup) (tK.trans k2 k3)
    exact ok_some ⟨r3, Or.inl ⟨rfl, by rw [k 18 (by decide)]; exact f5⟩, by rw [k 18 (by decide)]; exact f7, by rw [k 18 (by decide)]; exact f18, tJ.trans j1 k.j⟩
  · refine ok_iff (fun q => c ((oN_neg (fun a e => (aNextN_some _ _ e).1)).mp q)) ?_
    obtain ⟨a, ea⟩ : ∃ a, aNext w = some a := Option.ne_none_iff_exists'.mp c
    obtain ⟨g0, g1, g2, g3⟩ := aNextN_some _ _ ea
    rw [ea]
    obtain ⟨m, l, hml⟩ : ∃ m l, aL w a 1 = m :: l := by
      cases hq : aL w a 1 with
      | nil => exact absurd hq g3
      | cons m l => exact ⟨m, l, rfl⟩
    rw [aStep_act ea hml, show oN (some a) = nI a from rfl]
    show Ok _ (fun _ (t' : tSt) => sQ t t' ((aDeals (uG (uL w a 1 l) 3 (nI a)) a m).1, (aDeals (uG (uL w a 1 l) 3 (nI a)) a m).2, some (aWord a m.2)))
    have hrow := h1.row g1 1 (by decide)
    have hcap : (aL w a 1).length ≤ 12 := h1.cap g1 1 (by decide)
    have hlen : t1 0 (77 * a + 13) = nI (aL w a 1).length := h1.len g1 1 (by decide)
    obtain ⟨m1, m2⟩ := hrow.2.2 0 m (by rw [hml]; rfl)
    have m1 : t1 0 (77 * a + 14) = m.1 := m1
    have m2 : t1 0 (77 * a + 15) = m.2 := m2 rfl
    rw [hml, List.length_cons] at hlen hcap
    show Ok (ob (fX4_at (nI a) (nI 14) t1) _) _
    refine ok_obE (x4_atE (f := 14) rfl (by omega) m1) ?_
    refine ok_obE (x4_atE (f := 15) rfl (by omega) m2) ?_
    refine ok_obE (x4_atE (f := 13) rfl (by omega) hlen) ?_
    refine ok_letv ?_
    rw [nI_sub (by omega), Nat.add_sub_cancel]
    refine x4_st45 (a := a) (m := l.length) (g0 := t1 0) g0 (by omega) (2 * l.length) 0 FU t1 (by unfold FU; omega) (by omega) (fun j => by rw [if_neg (by omega)]) (fun t2 k2 f2 => ?_)
    refine ok_obE (x4_sets (f := 13) rfl (by omega)) ?_
    have r3 : Rt (tup t2 0 (77 * a + 13) (nI l.length) 0) (uL w a 1 l) := by
      refine h1.setL g1 (k := 1) (by decide) (fun i hi => ?_) ⟨?_, ?_, fun i p hp => ?_⟩
      · have hi : i < 77 * a + 13 ∨ 77 * a + 13 + 25 ≤ i := hi
        rw [tup_0, if_neg (by omega), f2, if_neg (by omega)]
      · show tup _ 0 (77 * a + 13) _ 0 (77 * a + 13) = _
        rw [tup_0, if_pos rfl]
      · show l.length ≤ 12
        omega
      · have hlt := (List.getElem?_eq_some_iff.mp hp).1
        obtain ⟨p1, p2⟩ := hrow.2.2 (i + 1) p (by rw [hml]; exact hp)
        have p1 : t1 0 (77 * a + 13 + 1 + 2 * (i + 1)) = p.1 := p1
        have p2 : t1 0 (77 * a + 13 + 2 + 2 * (i + 1)) = p.2 := p2 rfl
        refine ⟨?_, fun _ => ?_⟩
        · show tup _ 0 (77 * a + 13) _ 0 (77 * a + 13 + 1 + 2 * i) = _
          rw [tup_0, if_neg (by omega), f2, if_pos (by omega), ← p1]
          congr 1
        · show tup _ 0 (77 * a + 13) _ 0 (77 * a + 13 + 2 + 2 * i) = _
          rw [tup_0, if_neg (by omega), f2, if_pos (by omega), ← p2]
          congr 1
    refine ok_rv (twr_n (by show _ < 1018; omega)) ?_
    have r4 : Rt (tup (tup t2 0 (77 * a + 13) (nI l.length)) 0 928 (nI a) 0) (uG (uL w a 1 l) 3 (nI a)) := r3.setG (by decide) (fun q => tup_0 _ _ _ q)
    refine ok_rv (x4_trd (by decide) (r4.glo 1 (by decide))) ?_
    refine ok_rv (twr_n (by show _ < 1018; omega)) ?_
    have r5 : Rt (tup (tup (tup t2 0 (77 * a + 13) (nI l.length)) 0 928 (nI a)) 0 926 (aG (uG (uL w a 1 l) 3 (nI a)) 1 + nI 1) 0) (uG (uG (uL w a 1 l) 3 (nI a)) 1 (aG (uG (uL w a 1 l) 3 (nI a)) 1 + nI 1)) := r4.setG (by decide) (fun q => tup_0 _ 926 _ q)
    have k5 : tK t1 (tup (tup (tup t2 0 (77 * a + 13) (nI l.length)) 0 928 (nI a)) 0 926 (aG (uG (uL w a 1 l) 3 (nI a)) 1 + nI 1)) := tK.trans k2 (tK.trans (tK.trans tK_tup tK_tup) tK_tup)
    generalize tup (tup (tup t2 0 (77 * a + 13) (nI l.length)) 0 928 (nI a)) 0 926 (aG (uG (uL w a 1 l) 3 (nI a)) 1 + nI 1) = t5 at r5 k5
    refine ok_ob (x4_logs (a := a) (n := m.2) r5) (fun _ t6 h6 => ?_)
    obtain ⟨r6, k6, k7, k8⟩ := h6
    -- what holds ahead of the deal
    have g := hI.act g1
    have i1 : aI (uL w a 1 l) tm := hI.setL fun hq => g.set1 (by omega) (fun q hq => g.2.2.1.2 q (by rw [hml]; exact List.mem_cons_of_mem _ hq)) (fun q => by rw [g2] at q; exact absurd q (by decide))
    have i2 : aI (uG (uL w a 1 l) 3 (nI a)) tm := i1.setG (by decide) (fun _ => Or.inr ⟨a, g0, rfl⟩)
    have i3 : aI (aLogged (uG (uG (uL w a 1 l) 3 (nI a)) 1 (aG (uG (uL w a 1 l) 3 (nI a)) 1 + nI 1)) (aWord a m.2)) tm := aI_logged (i2.setG (by decide) (fun q => absurd q (by decide)))
    have n9 : aI9 (aLogged (uG (uG (uL w a 1 l) 3 (nI a)) 1 (aG (uG (uL w a 1 l) 3 (nI a)) 1 + nI 1)) (aWord a m.2)) 12 := aI9_of h9 rfl (fun b => by
      show aL (uL w a 1 l) b 4 = _
      rw [uL_L, if_neg (by omega)])
    refine ok_ob (x4_deals r6 i3 n9 g1 g2 (g.2.2.1.2 m (by rw [hml]; exact List.mem_cons_self))) (fun _ t7 h7 => ?_)
    obtain ⟨q1, q2, q3, q4, q5⟩ := h7
    have s5 : t6 18 5 = t 18 5 := by rw [k7 5 (by decide), k5 18 (by decide)]; exact f5
    refine ok_some ⟨q1, ?_, by rw [q3]; exact k8, by rw [q4, k7 18 (by decide), k5 18 (by decide)]; exact f18, tJ.trans j1 (tJ.trans k5.j (tJ.trans ⟨fun k z1 z2 z3 => k6 k z1 z3, fun j z1 z2 z3 z4 z5 => k7 j z3⟩ q5))⟩
    rcases q2 with ⟨z1, z2⟩ | z
    · exact Or.inl ⟨z1, z2.trans s5⟩
    · exact Or.inr z
theorem aEnd_cs (w : aW) : aEnd w = nI 0 ∨ aEnd w = nI 1 ∨ aEnd w = nI 2 := by
  unfold aEnd
  split
  · exact Or.inr (Or.inr rfl)
  · split
    · exact Or.inr (Or.inl rfl)
    · exact Or.inl rfl
theorem aEnd_has (h : aEnd w = nI 0) : aHs w := fun q => by
  unfold aEnd at h
  by_cases c : 0 < aN w ∧ ¬ aF w 0 5 = nI 1
  · rw [if_pos c] at h
    exact absurd h (by decide)
  · rw [if_neg c, if_pos q] at h
    exact absurd h (by decide)
theorem x4_isEnd {x y : Int32} (h : Rt (t 0) w) (hI : aI w tm) : fX4_isEnd x y t = some (if aEnd w = nI 0 ∧ ¬ x = y then nI 0 else nI 1, tup t 18 18 (aEnd w)) := by
  have hN := h.n12
  have key : Ok (fX4_isEnd x y t) (fun r t' => r = (if aEnd w = nI 0 ∧ ¬ x = y then nI 0 else nI 1) ∧ t' = tup t 18 18 (aEnd w)) := by
    unfold fX4_isEnd
    refine ok_rv (x4_trd (by decide) h.1.1) ?_
    refine ok_jn ?_
    have fin : ∀ e, e = aEnd w → Ok (letv (tup t 18 18 e) (fun t5 => jn (fun (t6 : tSt) => some (nI 1, t6)) (fun (j7 : tSt → Option (Int32 × tSt)) => if 0 < (t5 18 18) then j7 t5 else if x = y then j7 t5 else some (nI 0, t5)))) (fun r t' => r = (if aEnd w = nI 0 ∧ ¬ x = y then nI 0 else nI 1) ∧ t' = tup t 18 18 (aEnd w)) := by
      intro e he
      subst he
      refine ok_letv ?_
      refine ok_jn ?_
      rw [tup_k, if_pos rfl]
      rcases aEnd_cs w with q | q | q
      · refine ok_iff (by rw [q]; decide) ?_
        by_cases c : x = y
        · refine ok_ift c ?_
          exact ok_some ⟨by rw [if_neg (fun z => z.2 c)], rfl⟩
        · refine ok_iff c ?_
          exact ok_some ⟨by rw [if_pos ⟨q, c⟩], rfl⟩
      · refine ok_ift (by rw [q]; decide) ?_
        exact ok_some ⟨by rw [if_neg (fun z => by rw [q] at z; exact absurd z.1 (by decide))], rfl⟩
      · refine ok_ift (by rw [q]; decide) ?_
        exact ok_some ⟨by rw [if_neg (fun z => by rw [q] at z; exact absurd z.1 (by decide))], rfl⟩
    have mid : ¬ (0 < aN w ∧ ¬ aF w 0 5 = nI 1) → Ok (ob (fX4_hasStep t) (fun r10 t11 => if r10 = 0 then (fun (x2 : Int32) (t3 : tSt) => letv (tup t3 18 18 x2) (fun t5 => jn (fun (t6 : tSt) => some (nI 1, t6)) (fun (j7 : tSt → Option (Int32 × tSt)) => if 0 < (t5 18 18) then j7 t5 else if x = y then j7 t5 else some (nI 0, t5)))) (nI 1) t11 else (fun (x2 : Int32) (t3 : tSt) => letv (tup t3 18 18 x2) (fun t5 => jn (fun (t6 : tSt) => some (nI 1, t6)) (fun (j7 : tSt → Option (Int32 × tSt)) => if 0 < (t5 18 18) then j7 t5 else if x = y then j7 t5 else some (nI 0, t5)))) (nI 0) t11)) (fun r t' => r = (if aEnd w = nI 0 ∧ ¬ x = y then nI 0 else nI 1) ∧ t' = tup t 18 18 (aEnd w)) := by
      intro c
      refine ok_obE (x4_has h hI) ?_
      by_cases c2 : aNext w = none ∧ aT w = []
      · rw [if_pos c2]
        refine ok_ift rfl (fin (nI 1) ?_)
        unfold aEnd
        rw [if_neg c, if_pos c2]
      · rw [if_neg c2]
        refine ok_iff (by decide) (fin (nI 0) ?_)
        unfold aEnd
        rw [if_neg c, if_neg c2]
    refine ok_jn ?_
    by_cases c : 0 < aN w
    · refine ok_ift ((nI_lt0 (by omega)).mpr c) ?_
      have e5 : t 0 (77 * 0 + 5) = aF w 0 5 := h.fld c (by decide)
      by_cases c2 : aF w 0 5 = nI 1
      · refine ok_obE (x4_liveT (by omega) (e5.trans c2)) ?_
        refine ok_iff (by decide) ?_
        exact mid (fun q => q.2 c2)
      · refine ok_obE (x4_liveF (by omega) (by rw [e5]; exact c2)) ?_
        refine ok_ift rfl (fin (nI 2) ?_)
        unfold aEnd
        rw [if_pos ⟨c, c2⟩]
    · refine ok_iff (fun q => c ((nI_lt0 (by omega)).mp q)) ?_
      exact mid (fun q => c q.1)
  obtain ⟨r, t', e, rfl, rfl⟩ := key
  exact e
/-- as tJ, how it ends apart -/
theorem x4_runs {m : Nat} (hm : m ≤ 200) {kx : Int32 → tSt → Option (Int32 × tSt)} {Q : Int32 → tSt → Prop} : ∀ (n i fuel : Nat) (w : aW) (t : tSt) (tm : Nat), n < fuel → i + n = m → Rt (t 0) w → aI w tm → aI9 w 12 → tm + 8 * n < 2 ^ 30 →
    (∀ t' : tSt, Rt (t' 0) (aRuns n w).2 → t' 18 18 = aEnd (aRuns n w).2 → tJ t t' → Ok (kx (nI (i + (aRuns n w).1)) t') Q) → Ok (fX4_runs_L2 (nI m) kx fuel (nI i) t) Q := by
  intro n
  induction n with
  | zero =>
    intro i fuel w t tm hf hi h hI h9 ht k
    obtain ⟨fuel, rfl⟩ : ∃ n, fuel = n + 1 := ⟨fuel - 1, by omega⟩
    rw [fX4_runs_L2]
    refine ok_obE (x4_isEnd h hI) ?_
    have : i = m := by omega
    refine ok_iff (by rw [this, if_neg (fun z => z.2 rfl)]; decide) ?_
    exact k _ (by rw [tup_z (by decide)]; exact h) (by rw [tup_k, if_pos rfl]; rfl) ⟨fun k _ _ q => tup_ne q, fun j _ _ _ _ q => by rw [tup_k, if_neg q]⟩
  | succ n ih =>
    intro i fuel w t tm hf hi h hI h9 ht k
    obtain ⟨fuel, rfl⟩ : ∃ n, fuel = n + 1 := ⟨fuel - 1, by omega⟩
    rw [fX4_runs_L2]
    refine ok_obE (x4_isEnd h hI) ?_
    have h1 : Rt (tup t 18 18 (aEnd w) 0) w := by rw [tup_z (by decide)]; exact h
    have j1 : tJ t (tup t 18 18 (aEnd w)) := ⟨fun k _ _ q => tup_ne q, fun j _ _ _ _ q => by rw [tup_k, if_neg q]⟩
    unfold aRuns at k
    by_cases c : aEnd w = nI 0
    · rw [if_pos c] at k
      refine ok_ift (by rw [if_pos ⟨c, nI_ne (by omega) (by omega) (by omega)⟩]; rfl) ?_
      refine ok_ob (x4_step h1 hI h9 (aEnd_has c)) (fun _ t2 h2 => ?_)
      obtain ⟨r2, -, -, -, j2⟩ := h2
      refine ok_letv ?_
      rw [nI_add]
      obtain ⟨tm', a1, a2, a3, a4, -⟩ := aI_step hI h9 (by omega)
      refine ih (i + 1) fuel (aStep w).1 t2 tm' (by omega) (by omega) r2 a3 a4 (by omega) (fun t3 r3 e3 j3 => ?_)
      have := k t3 r3 e3 (tJ.trans j1 (tJ.trans j2 j3))
      rw [show i + 1 + (aRuns n (aStep w).1).1 = i + ((aRuns n (aStep w).1).1 + 1) from by omega]
      exact this
    · rw [if_neg c] at k
      refine ok_iff (by rw [if_neg (fun z => c z.1)]; decide) ?_
      exact k _ h1 (by rw [tup_k, if_pos rfl]) j1
theorem x4_tk2 {v0 v1 : Nat} (h0 : tlen v0 = 1018) (h1 : tlen v1 = 1018) {kx : tSt → Option (Unit × tSt)} {Q : Unit → tSt → Prop} (hne : v0 ≠ v1) : ∀ (n i fuel : Nat) (t : tSt), n < fuel → i + n = 1018 → (∀ j, j < i → t v1 j = t v0 j) →
    (∀ t' : tSt, (∀ k, k ≠ v1 → t' k = t k) → (∀ j, j < 1018 → t' v1 j = t v0 j) → Ok (kx t') Q) → Ok (fX4_take_L2 v0 v1 kx fuel (nI i) t) Q := by
  intro n
  induction n with
  | zero =>
    intro i fuel t hf hi e k
    obtain ⟨fuel, rfl⟩ : ∃ n, fuel = n + 1 := ⟨fuel - 1, by omega⟩
    have : i = 1018 := by omega
    subst this
    rw [fX4_take_L2]
    refine ok_iff (by decide) ?_
    exact k t (fun _ _ => rfl) e
  | succ n ih =>
    intro i fuel t hf hi e k
    obtain ⟨fuel, rfl⟩ : ∃ n, fuel = n + 1 := ⟨fuel - 1, by omega⟩
    rw [fX4_take_L2]
    refine ok_ift (nI_lt (by omega) (by omega)) ?_
    refine ok_rv (trd_n (by rw [h0]; omega)) ?_
    refine ok_rv (twr_n (by rw [h1]; omega)) ?_
    refine ok_letv ?_
    rw [nI_add]
    refine ih (i + 1) fuel _ (by omega) (by omega) (fun j hj => ?_) (fun t' k1 f1 => k t' (fun q hq => by rw [k1 q hq, tup_ne hq]) (fun j hj => by rw [f1 j hj, tup_ne hne]))
    rw [tup_k, tup_ne hne]
    by_cases c : j = i
    · rw [if_pos c, c]
    · rw [if_neg c]
      exact e j (by omega)
theorem x4_take {v0 v1 : Nat} (h0 : tlen v0 = 1018) (h1 : tlen v1 = 1018) (hne : v0 ≠ v1) : Ok (fX4_take v0 v1 t) (fun _ t' => (∀ k, k ≠ v1 → t' k = t k) ∧ ∀ j, j < 1018 → t' v1 j = t v0 j) := by
  unfold fX4_take
  exact x4_tk2 h0 h1 hne 1018 0 FU t (by unfold FU; omega) (by omega) (fun j hj => absurd hj (Nat.not_lt_zero _)) (fun t' k1 f1 => ok_some ⟨k1, f1⟩)
theorem Rt.congr {g g' : Nat → Int32} (h : Rt g w) (e : ∀ j, j < 1018 → g' j = g j) : Rt g' w := by
  have hN := h.n12
  obtain ⟨⟨h1, h2⟩, h3, h4, h5, h6, h7⟩ := h
  refine ⟨⟨by rw [e _ (by omega)]; exact h1, h2⟩, fun i hi => by rw [e _ (by omega)]; exact h3 i hi, fun b hb => ⟨fun j hj => by rw [e _ (by omega)]; exact (h4 b hb).1 j hj, fun k hk => ?_⟩, ⟨by rw [e _ (by omega)]; exact h5.1, h5.2.1, fun i y hy => ?_⟩, ⟨by rw [e _ (by omega)]; exact h6.1, h6.2.1, fun i y hy => ?_⟩, ⟨by rw [e _ (by omega)]; exact h7.1, h7.2.1, fun i y hy => ?_⟩⟩
  · have l2 := rB_hi hk
    exact ((h4 b hb).2 k hk).congr fun i i1 i2 => e i (by omega)
  · have := (List.getElem?_eq_some_iff.mp hy).1
    have := h5.2.1
    rw [e _ (by omega), e _ (by omega), e _ (by omega)]
    exact h5.2.2 i y hy
  · have := (List.getElem?_eq_some_iff.mp hy).1
    have := h6.2.1
    rw [e _ (by omega)]
    exact h6.2.2 i y hy
  · have := (List.getElem?_eq_some_iff.mp hy).1
    have := h7.2.1
    rw [e _ (by omega), e _ (by omega)]
    exact h7.2.2 i y hy
end X4H
