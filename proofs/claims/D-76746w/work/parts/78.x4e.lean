/-! THE TWIN: what one does -/
theorem ok_swH {α S : Type} {x k : Int32} {a d : Option (α × S)} {r : List (Int32 × Option (α × S))} {Q : α → S → Prop} (h : x = k) (z : Ok a Q) : Ok (gsw x ((k, a) :: r) d) Q := by
  unfold gsw
  rw [if_pos h]
  exact z
theorem ok_swT {α S : Type} {x k : Int32} {a d : Option (α × S)} {r : List (Int32 × Option (α × S))} {Q : α → S → Prop} (h : ¬ x = k) (z : Ok (gsw x r d) Q) : Ok (gsw x ((k, a) :: r) d) Q := by
  unfold gsw
  rw [if_neg h]
  exact z
theorem ok_swN {α S : Type} {x : Int32} {d : Option (α × S)} {Q : α → S → Prop} (z : Ok d Q) : Ok (gsw x [] d) Q := z
/-! what one does, by cases -/
section DEALS
variable {w : aW} {a : Nat} {m : Int32 × Int32}
theorem aDeal_d5 (hd : ¬ m.2 < nI 1000) (hb : aDoes w a = nI 5) : aDeal w a m = ((aFails w a (nI 2) 0).1, nI 2) := by unfold aDeal; rw [if_pos hd, if_pos hb]
theorem aDeal_d (hd : ¬ m.2 < nI 1000) (hb : ¬ aDoes w a = nI 5) : aDeal w a m = (uF w a 6 (aF w a 6 + nI 100 + m.2 - nI 1000), nI 0) := by unfold aDeal; rw [if_pos hd, if_neg hb]
theorem aDeal_0 (hd : m.2 < nI 1000) (hb : aDoes w a = nI 0) : aDeal w a m = (uF w a 6 (aF w a 6 + m.2), nI 0) := by unfold aDeal; rw [if_neg (fun q => q hd), if_pos hb]
theorem aDeal_1 (hd : m.2 < nI 1000) (hb : aDoes w a = nI 1) : aDeal w a m = (aPass a m.2 false (aN w) 0 w, nI 0) := by unfold aDeal; rw [if_neg (fun q => q hd), hb, if_neg (by decide), if_pos rfl]
theorem aDeal_2 (hd : m.2 < nI 1000) (hb : aDoes w a = nI 2) : aDeal w a m = (if 0 < m.2 ∧ ¬ m.1 < 0 then (aSends w m.1.toNatClampNeg (nI a, m.2 - nI 1)).2 else w, nI 0) := by unfold aDeal; rw [if_neg (fun q => q hd), hb, if_neg (by decide), if_neg (by decide), if_pos rfl]
theorem aDeal_3 (hd : m.2 < nI 1000) (hb : aDoes w a = nI 3) : aDeal w a m = if irm m.2 (nI 2) = 0 then (aBack w a, nI 0) else if (aL w a 2).length = 6 then ((aFails w a (nI 3) 0).1, nI 3) else (uL w a 2 (aL w a 2 ++ [m]), nI 0) := by unfold aDeal; rw [if_neg (fun q => q hd), hb, if_neg (by decide), if_neg (by decide), if_neg (by decide), if_pos rfl]
theorem aDeal_4 (hd : m.2 < nI 1000) (hb : aDoes w a = nI 4) : aDeal w a m = if m.2 < 0 then (uL w a 0 (if 1 < (aL w a 0).length then (aL w a 0).dropLast else aL w a 0), nI 0) else if (aL w a 0).length = 5 then ((aFails w a (nI 4) 0).1, nI 4) else (uL w a 0 (aL w a 0 ++ [(irm m.2 (nI 10), nI 0)]), nI 0) := by unfold aDeal; rw [if_neg (fun q => q hd), hb, if_neg (by decide), if_neg (by decide), if_neg (by decide), if_neg (by decide), if_pos rfl]
theorem aDeal_5 (hd : m.2 < nI 1000) (hb : aDoes w a = nI 5) : aDeal w a m = if m.2 < aF w a 6 then ((aFails w a (nI 1) 0).1, nI 1) else (uF w a 6 m.2, nI 0) := by unfold aDeal; rw [if_neg (fun q => q hd), hb, if_neg (by decide), if_neg (by decide), if_neg (by decide), if_neg (by decide), if_neg (by decide), if_pos rfl]
theorem aDeal_6 (hd : m.2 < nI 1000) (hb : aDoes w a = nI 6) : aDeal w a m = (if 0 < m.2 ∧ (aT w).length < 10 then uT w (aT w ++ [(nI a, aG w 0 + nI 1 + irm m.2 (nI 8), m.2 - nI 1)]) else w, nI 0) := by unfold aDeal; rw [if_neg (fun q => q hd), hb, if_neg (by decide), if_neg (by decide), if_neg (by decide), if_neg (by decide), if_neg (by decide), if_neg (by decide), if_pos rfl]
theorem aDeal_7 (hd : m.2 < nI 1000) (hb : aDoes w a = nI 7) : aDeal w a m = (aPass a m.2 true (aN w) 0 w, nI 0) := by unfold aDeal; rw [if_neg (fun q => q hd), hb, if_neg (by decide), if_neg (by decide), if_neg (by decide), if_neg (by decide), if_neg (by decide), if_neg (by decide), if_neg (by decide), if_pos rfl]
theorem aDeal_8 (hd : m.2 < nI 1000) (hb : aDoes w a = nI 8) : aDeal w a m = (aWatches w a m.2, nI 0) := by unfold aDeal; rw [if_neg (fun q => q hd), hb, if_neg (by decide), if_neg (by decide), if_neg (by decide), if_neg (by decide), if_neg (by decide), if_neg (by decide), if_neg (by decide), if_neg (by decide), if_pos rfl]
theorem aDeal_9 (hd : m.2 < nI 1000) (hb : aDoes w a = nI 9) : aDeal w a m = (aStop 13 w a, nI 0) := by unfold aDeal; rw [if_neg (fun q => q hd), hb, if_neg (by decide), if_neg (by decide), if_neg (by decide), if_neg (by decide), if_neg (by decide), if_neg (by decide), if_neg (by decide), if_neg (by decide), if_neg (by decide)]
theorem mOk_lt {N : Nat} (hm : mOk N m) (hN : N ≤ 12) (h : m.2 < nI 1000) : (m.1 = -1 ∨ ∃ j, j < N ∧ m.1 = nI j) ∧ -99 ≤ m.2.toInt ∧ m.2.toInt ≤ 99 := by
  rcases hm with h1 | ⟨-, x, hx, e⟩
  · exact h1
  · rw [e, nI_add] at h
    exact absurd h (nI_nlt (by omega) (by omega))
theorem push_12 {xs : List (Int32 × Int32)} {N b : Nat} (h : xs.Nodup) (h2 : ∀ q ∈ xs, ∃ j, j < N ∧ q = (nI j, nI 0)) (hb : b < N) (hN : N ≤ 12) (hx : ¬ (nI b, nI 0) ∈ xs) : xs.length < 12 := by
  have h3 : ((nI b, nI 0) :: xs).Nodup := List.nodup_cons.mpr ⟨hx, h⟩
  have h4 : ((nI b, nI 0) :: xs) ⊆ (List.range N).map (fun j => (nI j, nI 0)) := fun q hq => by
    rcases List.mem_cons.mp hq with e | e
    · exact List.mem_map.mpr ⟨b, List.mem_range.mpr hb, e.symm⟩
    · obtain ⟨j, hj, e⟩ := h2 q e
      exact List.mem_map.mpr ⟨j, List.mem_range.mpr hj, e.symm⟩
  have h5 := h3.length_le_of_subset h4
  rw [List.length_map, List.length_range, List.length_cons] at h5
  omega
end DEALS
section X4E
variable {t : tSt} {w : aW} {a tm : Nat}
theorem x4_pass {n : Int32} {all : Bool} : ∀ (k i fuel : Nat) (w : aW) (t : tSt), k < fuel → i + k = aN w → a < aN w → Rt (t 0) w → Ok (fX4_pass_L3 (nI a) n (zb all) (fun (t9 : tSt) => some ((), t9)) fuel (nI i) t) (fun _ t' => Rt (t' 0) (aPass a n all k i w) ∧ tK t t') := by
  intro k
  induction k with
  | zero =>
    intro i fuel w t hf hi ha h
    have hN := h.n12
    obtain ⟨fuel, rfl⟩ : ∃ n, fuel = n + 1 := ⟨fuel - 1, by omega⟩
    rw [fX4_pass_L3]
    refine ok_rv (x4_trd (by decide) h.1.1) ?_
    refine ok_iff (nI_nlt (by omega) (by omega)) ?_
    exact ok_some ⟨h, tK.rf t⟩
  | succ k ih =>
    intro i fuel w t hf hi ha h
    have hN := h.n12
    obtain ⟨fuel, rfl⟩ : ∃ n, fuel = n + 1 := ⟨fuel - 1, by omega⟩
    have e0 : t 0 (77 * i + 0) = aF w i 0 := h.fld (by omega) (by decide)
    have e5 : t 0 (77 * i + 5) = aF w i 5 := h.fld (by omega) (by decide)
    rw [fX4_pass_L3]
    refine ok_rv (x4_trd (by decide) h.1.1) ?_
    refine ok_ift (nI_lt (by omega) (by omega)) ?_
    unfold aPass
    by_cases c : aF w i 0 = nI a ∧ aF w i 5 = nI 1
    · refine ok_obE (x4_childT (by omega) (e0.trans c.1) (e5.trans c.2)) ?_
      refine ok_jn ?_
      refine ok_iff (by decide) ?_
      refine ok_ob (x4_sends h (by omega)) (fun r t1 h1 => ?_)
      obtain ⟨-, r1, k1, -⟩ := h1
      rw [if_pos c]
      cases all with
      | false =>
        refine ok_ift rfl ?_
        exact ok_some ⟨r1, k1⟩
      | true =>
        refine ok_iff (by decide) ?_
        refine ok_letv ?_
        rw [nI_add]
        exact ok_mono (ih (i + 1) fuel _ t1 (by omega) (by rw [aM_sends.1]; omega) (by rw [aM_sends.1]; exact ha) r1) (fun _ t' h => ⟨h.1, tK.trans k1 h.2⟩)
    · refine ok_obE (x4_childF (by omega) (by rw [e0, e5]; exact c)) ?_
      refine ok_jn ?_
      refine ok_ift rfl ?_
      refine ok_letv ?_
      rw [if_neg c, nI_add]
      exact ih (i + 1) fuel w t (by omega) (by omega) ha h
theorem Rt.stk {g : Nat → Int32} {l : List (Int32 × Int32)} {b : Nat} (h : Rt g w) (ha : a < aN w) (e : aL w a 0 = l ++ [(nI b, nI 0)]) : g (77 * a + 7) = nI (l.length + 1) ∧ g (77 * a + (8 + l.length)) = nI b ∧ l.length ≤ 4 := by
  have h1 : g (77 * a + 7) = nI (aL w a 0).length := h.len ha 0 (by decide)
  have h2 : (aL w a 0).length ≤ 5 := h.cap ha 0 (by decide)
  have h3 := ((h.row ha 0 (by decide)).2.2 l.length (nI b, nI 0) (by rw [e, List.getElem?_append_right (Nat.le_refl _), Nat.sub_self]; rfl)).1
  have h3 : g (77 * a + 7 + 1 + 1 * l.length) = nI b := h3
  rw [e, List.length_append] at h1 h2
  have h2 : l.length + 1 ≤ 5 := h2
  exact ⟨h1, by rw [← h3]; congr 1; omega, by omega⟩
theorem x4_doing (h : Rt (t 0) w) (hI : aI w tm) (ha : a < aN w) : fX4_doing (nI a) t = some (aDoes w a, t) := by
  have hN := h.n12
  obtain ⟨l, b, e, hb, ed⟩ := hI.stk ha
  obtain ⟨e7, e8, hl⟩ := h.stk ha e
  have : Ok (fX4_doing (nI a) t) (fun r t' => r = aDoes w a ∧ t' = t) := by
    unfold fX4_doing
    refine ok_obE (x4_atE (f := 7) rfl (by omega) e7) ?_
    rw [nI_add, nI_sub (by omega)]
    refine ok_obE (x4_atE (x := aDoes w a) (f := 8 + l.length) (by congr 1) (by omega) (by rw [ed]; exact e8)) ?_
    exact ok_some ⟨rfl, rfl⟩
  obtain ⟨r, t', e, rfl, rfl⟩ := this
  exact e
theorem x4_delays {n : Int32} (h : Rt (t 0) w) (ha : a < aN w) : Ok (fX4_delays (nI a) n t) (fun _ t' => Rt (t' 0) (if 0 < n ∧ (aT w).length < 10 then uT w (aT w ++ [(nI a, aG w 0 + nI 1 + irm n (nI 8), n - nI 1)]) else w) ∧ tK t t') := by
  have hN := h.n12
  have e1 : t 0 931 = nI (aT w).length := h.2.2.2.1.1
  have hc : (aT w).length ≤ 10 := h.2.2.2.1.2.1
  unfold fX4_delays
  by_cases c : 0 < n
  · refine ok_ift c ?_
    refine ok_rv (x4_trd (by decide) e1) ?_
    by_cases c2 : (aT w).length < 10
    · refine ok_ift (nI_lt c2 (by omega)) ?_
      rw [if_pos ⟨c, c2⟩]
      refine ok_rv (x4_trd (by decide) e1) ?_
      refine ok_letv ?_
      rw [nI_mul, nI_add, nI_add, nI_add]
      refine ok_rv (twr_n (by show _ < 1018; omega)) ?_
      refine ok_rv (x4_trd (x := aG w 0) (by decide) (by rw [tup_0, if_neg (by omega)]; exact h.glo 0 (by decide))) ?_
      refine ok_rv (twr_n (by show _ < 1018; omega)) ?_
      refine ok_rv (twr_n (by show _ < 1018; omega)) ?_
      refine ok_rv (x4_trd (x := nI (aT w).length) (by decide) (by rw [tup_0, if_neg (by omega), tup_0, if_neg (by omega), tup_0, if_neg (by omega)]; exact e1)) ?_
      refine ok_rv (twr_n (by show _ < 1018; omega)) ?_
      refine ok_some ⟨h.setT (fun j hj => by rw [tup_0, if_neg (by omega), tup_0, if_neg (by omega), tup_0, if_neg (by omega), tup_0, if_neg (by omega)]) ⟨?_, ?_, fun i x hx => ?_⟩, tK.trans (tK.trans tK_tup tK_tup) (tK.trans tK_tup tK_tup)⟩
      · rw [tup_0, if_pos rfl, nI_add, List.length_append]; rfl
      · rw [List.length_append]; exact c2
      · have hlt := (List.getElem?_eq_some_iff.mp hx).1
        rw [List.length_append] at hlt
        have hlt : i < (aT w).length + 1 := hlt
        by_cases ci : i < (aT w).length
        · rw [List.getElem?_append_left ci] at hx
          have := h.2.2.2.1.2.2 i x hx
          refine ⟨?_, ?_, ?_⟩
          · rw [tup_0, if_neg (by omega), tup_0, if_neg (by omega), tup_0, if_neg (by omega), tup_0, if_neg (by omega)]; exact this.1
          · rw [tup_0, if_neg (by omega), tup_0, if_neg (by omega), tup_0, if_neg (by omega), tup_0, if_neg (by omega)]; exact this.2.1
          · rw [tup_0, if_neg (by omega), tup_0, if_neg (by omega), tup_0, if_neg (by omega), tup_0, if_neg (by omega)]; exact this.2.2
        · have ei : i = (aT w).length := by omega
          subst ei
          rw [List.getElem?_append_right (Nat.le_refl _), Nat.sub_self] at hx
          cases hx
          refine ⟨?_, ?_, ?_⟩
          · rw [tup_0, if_neg (by omega), tup_0, if_neg (by omega), tup_0, if_neg (by omega), tup_0, if_pos (by omega)]
          · rw [tup_0, if_neg (by omega), tup_0, if_neg (by omega), tup_0, if_pos (by omega)]
          · rw [tup_0, if_neg (by omega), tup_0, if_pos (by omega)]
    · refine ok_iff (nI_nlt (by omega) (by omega)) ?_
      rw [if_neg (fun q => c2 q.2)]
      exact ok_some ⟨h, tK.rf t⟩
  · refine ok_iff c ?_
    rw [if_neg (fun q => c q.1)]
    exact ok_some ⟨h, tK.rf t⟩
theorem x4_w61 {b : Nat} {v4 : Int32} {kx : tSt → Option (Unit × tSt)} {Q : Unit → tSt → Prop} (hb : b < 12) (hyes : Q () t) : ∀ (S : List (Int32 × Int32)) (i fuel : Nat), S.length < fuel → i + S.length ≤ 12 → v4 = nI (i + S.length) → wA (t 0) b i S → S.any (fun q => q.1 == nI a) = true → Ok (fX4_watches_L61 (nI a) (nI b) v4 kx fuel (nI i) t) Q := by
  intro S
  induction S with
  | nil => intro i fuel hf hi e hS y; cases y
  | cons x S ih =>
    intro i fuel hf hi e hS y
    simp only [List.length_cons] at hf hi e
    obtain ⟨fuel, rfl⟩ : ∃ n, fuel = n + 1 := ⟨fuel - 1, by omega⟩
    have x1 : t 0 (77 * b + 52 + i) = x.1 := hS 0 x rfl
    rw [fX4_watches_L61]
    refine ok_ift (by rw [e]; exact nI_lt (by omega) (by omega)) ?_
    refine ok_obE (x4_atE (x := x.1) (f := 52 + i) (by rw [nI_add]) (by omega) (by rw [← Nat.add_assoc]; exact x1)) ?_
    by_cases c : x.1 = nI a
    · refine ok_ift c ?_
      exact ok_some hyes
    · refine ok_iff c ?_
      refine ok_letv ?_
      rw [nI_add]
      rw [List.any_cons, show (x.1 == nI a) = false from by simpa using c, Bool.false_or] at y
      exact ih (i + 1) fuel (by omega) (by omega) (by rw [e]; congr 1; omega) hS.tail y
theorem x4_w61N {b : Nat} {v4 : Int32} {kx : tSt → Option (Unit × tSt)} {Q : Unit → tSt → Prop} (hb : b < 12) : ∀ (S : List (Int32 × Int32)) (i fuel : Nat), S.length < fuel → i + S.length ≤ 12 → v4 = nI (i + S.length) → wA (t 0) b i S → S.any (fun q => q.1 == nI a) = false → Ok (kx t) Q → Ok (fX4_watches_L61 (nI a) (nI b) v4 kx fuel (nI i) t) Q := by
  intro S
  induction S with
  | nil =>
    intro i fuel hf hi e hS y k
    obtain ⟨fuel, rfl⟩ : ∃ n, fuel = n + 1 := ⟨fuel - 1, by omega⟩
    rw [fX4_watches_L61]
    refine ok_iff (by rw [e]; exact nI_nlt (by show i + 0 ≤ i; omega) (by omega)) ?_
    exact k
  | cons x S ih =>
    intro i fuel hf hi e hS y k
    simp only [List.length_cons] at hf hi e
    obtain ⟨fuel, rfl⟩ : ∃ n, fuel = n + 1 := ⟨fuel - 1, by omega⟩
    have x1 : t 0 (77 * b + 52 + i) = x.1 := hS 0 x rfl
    rw [List.any_cons, Bool.or_eq_false_iff] at y
    have c : ¬ x.1 = nI a := by
      have := y.1
      simpa using this
    rw [fX4_watches_L61]
    refine ok_ift (by rw [e]; exact nI_lt (by omega) (by omega)) ?_
    refine ok_obE (x4_atE (x := x.1) (f := 52 + i) (by rw [nI_add]) (by omega) (by rw [← Nat.add_assoc]; exact x1)) ?_
    refine ok_iff c ?_
    refine ok_letv ?_
    rw [nI_add]
    exact ih (i + 1) fuel (by omega) (by omega) (by rw [e]; congr 1; omega) hS.tail y.2 k
theorem x4_watches {n : Int32} (h : Rt (t 0) w) (hI : aI w tm) (ha : a < aN w) (h1 : -99 ≤ n.toInt) (h2 : n.toInt ≤ 99) : Ok (fX4_watches (nI a) n t) (fun _ t' => Rt (t' 0) (aWatches w a n) ∧ tK t t') := by
  have hN := h.n12
  obtain ⟨hw, ew⟩ := who_lt (w := w) h1 h2 (by omega) hN
  have main : Ok (rv (trd t 0 (nI 924)) (fun x4 => gd (¬ x4 = 0) (letv ((irm (if n < 0 then n + nI 99 else n) x4)) (fun y5 => if y5 = nI a then some ((), t) else ob (fX4_isLive y5 t) (fun r6 t7 => if r6 = 0 then ob (fX4_sends (nI a) (-1 : Int32) (nI 1000 + y5) t7) (fun r8 t9 => some ((), t9)) else ob (fX4_at y5 (nI 51) t7) (fun r10 t11 => fX4_watches_L61 (nI a) y5 r10 (fun (t15 : tSt) => ob (fX4_sets y5 (nI 52 + r10) (nI a) t15) (fun r16 t17 => ob (fX4_sets y5 (nI 51) (r10 + nI 1) t17) (fun r18 t19 => some ((), t19)))) FU (nI 0) t11)))))) (fun _ t' => Rt (t' 0) (aWatches w a n) ∧ tK t t') := by
    refine ok_rv (x4_trd (by decide) h.1.1) ?_
    refine ok_gd (fun q => ?_) ?_
    · have := (nI_z (by omega)).mp q
      omega
    · refine ok_letv ?_
      rw [ew]
      unfold aWatches
      generalize aWho w n = b at hw ew ⊢
      by_cases c : b = a
      · rw [if_pos c]
        refine ok_ift (by rw [c]) ?_
        exact ok_some ⟨h, tK.rf t⟩
      · rw [if_neg c]
        refine ok_iff (nI_ne c (by omega) (by omega)) ?_
        have e5 : t 0 (77 * b + 5) = aF w b 5 := h.fld hw (by decide)
        by_cases c2 : aF w b 5 = nI 1
        · rw [if_pos c2]
          refine ok_obE (x4_liveT (by omega) (e5.trans c2)) ?_
          refine ok_iff (by decide) ?_
          have hcap : (aL w b 3).length ≤ 12 := h.cap hw 3 (by decide)
          refine ok_obE (x4_atE (f := 51) rfl (by omega) (h.len hw 3 (by decide))) ?_
          by_cases c3 : (aL w b 3).any (fun q => q.1 == nI a) = true
          · rw [if_pos c3]
            exact x4_w61 (by omega) ⟨h, tK.rf t⟩ (aL w b 3) 0 FU (by unfold FU; omega) (by omega) (by rw [Nat.zero_add]) (h.watch hw) c3
          · rw [if_neg c3]
            have hni : ¬ (nI a, nI 0) ∈ aL w b 3 := fun q => c3 (List.any_eq_true.mpr ⟨_, q, by simp⟩)
            have g := (hI.act hw).2.2.2.2.1
            have hl := push_12 g.1 g.2 ha hN hni
            have fin : Ok (ob (fX4_sets (nI b) (nI 52 + nI (aL w b 3).length) (nI a) t) (fun r16 t17 => ob (fX4_sets (nI b) (nI 51) (nI (aL w b 3).length + nI 1) t17) (fun r18 t19 => some ((), t19)))) (fun _ t' => Rt (t' 0) (uL w b 3 (aL w b 3 ++ [(nI a, nI 0)])) ∧ tK t t') := by
              refine ok_obE (x4_sets (f := 52 + (aL w b 3).length) (by rw [nI_add]) (by omega)) ?_
              refine ok_obE (x4_sets (f := 51) rfl (by omega)) ?_
              refine ok_some ⟨h.setL hw (k := 3) (by decide) (fun i hi => ?_) (sRow_push (h.row hw 3 (by decide)) hl ?_ ?_ (fun z => absurd z (by decide)) (fun i i1 i2 => ?_)), tK.trans tK_tup tK_tup⟩
              · have hi : i < 77 * b + 51 ∨ 77 * b + 51 + 13 ≤ i := hi
                rw [tup_0, if_neg (by omega), tup_0, if_neg (by omega)]
              · show tup _ 0 (77 * b + 51) _ 0 (77 * b + 51) = _
                rw [tup_0, if_pos rfl, nI_add]
              · show tup _ 0 (77 * b + 51) _ 0 (77 * b + 51 + 1 + 1 * (aL w b 3).length) = _
                rw [tup_0, if_neg (by omega), tup_0, if_pos (by omega)]
              · have i1 : 77 * b + 51 < i := i1
                have i2 : i < 77 * b + 51 + 1 + 1 * (aL w b 3).length := i2
                rw [tup_0, if_neg (by omega), tup_0, if_neg (by omega)]
            have c3 : (aL w b 3).any (fun q => q.1 == nI a) = false := Bool.eq_false_iff.mpr c3
            exact x4_w61N (by omega) (aL w b 3) 0 FU (by unfold FU; omega) (by omega) (by rw [Nat.zero_add]) (h.watch hw) c3 fin
        · rw [if_neg c2]
          refine ok_obE (x4_liveF (by omega) (by rw [e5]; exact c2)) ?_
          refine ok_ift rfl ?_
          refine ok_ob (x4_sends h ha) (fun r t1 h1 => ?_)
          obtain ⟨-, r1, k1, -⟩ := h1
          exact ok_some ⟨r1, k1⟩
  unfold fX4_watches
  refine ok_jn ?_
  by_cases c : n < 0
  · refine ok_ift c ?_
    rw [if_pos c] at main
    exact main
  · refine ok_iff c ?_
    rw [if_neg c] at main
    exact main
end X4E
