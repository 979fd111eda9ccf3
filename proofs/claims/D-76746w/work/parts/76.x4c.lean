/-! THE TWIN: failures noted -/
def nA (g : Nat → Int32) (b i : Nat) (xs : List (Int32 × Int32)) : Prop := ∀ k x, xs[k]? = some x → g (77 * b + 65 + (i + k)) = x.1
theorem nA.tail {g : Nat → Int32} {b i : Nat} {x : Int32 × Int32} {xs : List (Int32 × Int32)} (h : nA g b i (x :: xs)) : nA g b (i + 1) xs := fun k y hy => by
  have := h (k + 1) y hy
  rw [show i + 1 + k = i + (k + 1) from by omega]
  exact this
theorem Rt.noted {g : Nat → Int32} {w : aW} {b : Nat} (h : Rt g w) (hb : b < aN w) : nA g b 0 (aL w b 4) := fun k x hx => by
  have := ((h.row hb 4 (by decide)).2.2 k x hx).1
  have e : 77 * b + rB 4 + 1 + rS 4 * k = 77 * b + 65 + (0 + k) := by
    show 77 * b + 64 + 1 + 1 * k = _
    omega
  rw [e] at this
  exact this
theorem x4_nt14 {b : Nat} {r4 lim tm0 wi : Int32} {kx : Int32 → tSt → Option (Int32 × tSt)} {Q : Int32 → tSt → Prop} (hb : b < 12) (hlim : tm0 - wi = lim) : ∀ (S P : List (Int32 × Int32)) (i fuel : Nat) (t : tSt), S.length < fuel → i + S.length ≤ 12 → P.length ≤ i → r4 = nI (i + S.length) → nA (t 0) b 0 P → nA (t 0) b i S → t 0 925 = tm0 → t 0 (77 * b + 4) = wi →
    (∀ t' : tSt, tK t t' → (∀ j, (j < 77 * b + 65 ∨ 77 * b + 77 ≤ j) → t' 0 j = t 0 j) → nA (t' 0) b 0 (P ++ S.filter fun q => decide (¬ q.1 < lim)) → Ok (kx (nI (P ++ S.filter fun q => decide (¬ q.1 < lim)).length) t') Q) → Ok (fX4_noted_L14 (nI b) (nI 1) r4 kx fuel (nI P.length) (nI i) t) Q := by
  intro S
  induction S with
  | nil =>
    intro P i fuel t hf hi hp e hP hS et ew k
    obtain ⟨fuel, rfl⟩ : ∃ n, fuel = n + 1 := ⟨fuel - 1, by omega⟩
    rw [fX4_noted_L14]
    refine ok_iff (by rw [e]; exact nI_nlt (by show i + 0 ≤ i; omega) (by omega)) ?_
    have := k t (tK.rf t) (fun _ _ => rfl)
    rw [List.filter_nil, List.append_nil] at this
    exact this hP
  | cons x S ih =>
    intro P i fuel t hf hi hp e hP hS et ew k
    simp only [List.length_cons] at hf hi e
    obtain ⟨fuel, rfl⟩ : ∃ n, fuel = n + 1 := ⟨fuel - 1, by omega⟩
    have x1 : t 0 (77 * b + 65 + i) = x.1 := hS 0 x rfl
    rw [fX4_noted_L14]
    refine ok_ift (by rw [e]; exact nI_lt (by omega) (by omega)) ?_
    refine ok_obE (x4_atE (x := x.1) (f := 65 + i) (by rw [nI_add]) (by omega) (by rw [← Nat.add_assoc]; exact x1)) ?_
    refine ok_rv (x4_trd (by decide) et) ?_
    refine ok_obE (x4_atE (f := 4) rfl (by omega) ew) ?_
    refine ok_jn ?_
    by_cases c : x.1 < tm0 - wi
    · refine ok_ift c ?_
      refine ok_letv ?_
      rw [nI_add]
      have ef : (x :: S).filter (fun q => decide (¬ q.1 < lim)) = S.filter (fun q => decide (¬ q.1 < lim)) := List.filter_cons_of_neg (by rw [hlim] at c; simpa using c)
      rw [ef] at k
      exact ih P (i + 1) fuel t (by omega) (by omega) (by omega) (by rw [e]; congr 1; omega) hP hS.tail et ew k
    · refine ok_iff c ?_
      refine ok_jn ?_
      refine ok_iff (by decide) ?_
      refine ok_obE (x4_sets (f := 65 + P.length) (by rw [nI_add]) (by omega)) ?_
      refine ok_letv ?_
      refine ok_letv ?_
      rw [nI_add, nI_add]
      have ef : (x :: S).filter (fun q => decide (¬ q.1 < lim)) = x :: S.filter (fun q => decide (¬ q.1 < lim)) := List.filter_cons_of_pos (by rw [hlim] at c; simpa using c)
      rw [ef] at k
      have el : P.length + 1 = (P ++ [x]).length := by rw [List.length_append]; rfl
      rw [el]
      refine ih (P ++ [x]) (i + 1) fuel _ (by omega) (by omega) (by rw [← el]; omega) (by rw [e]; congr 1; omega) (fun q y hy => ?_) (fun q y hy => ?_) (by rw [tup_0, if_neg (by omega)]; exact et) (by rw [tup_0, if_neg (by omega)]; exact ew) (fun t' k2 f2 h2 => ?_)
      · by_cases cq : q < P.length
        · rw [List.getElem?_append_left cq] at hy
          have := hP q y hy
          rw [Nat.zero_add] at this ⊢
          rw [tup_0, if_neg (by omega)]
          exact this
        · have hq : q = P.length := by
            have := (List.getElem?_eq_some_iff.mp hy).1
            rw [← el] at this
            omega
          subst hq
          rw [List.getElem?_append_right (Nat.le_refl _), Nat.sub_self] at hy
          cases hy
          rw [Nat.zero_add, tup_0, if_pos (by omega)]
      · have := hS.tail q y hy
        rw [tup_0, if_neg (by omega)]
        exact this
      · have h3 := k t' (tK.trans tK_tup k2) (fun j hj => by rw [f2 j hj, tup_0, if_neg (by omega)])
        rw [List.append_assoc] at h2 ⊢
        exact h3 h2
theorem x4_nt14z {b : Nat} {r4 lim tm0 wi : Int32} {kx : Int32 → tSt → Option (Int32 × tSt)} {Q : Int32 → tSt → Prop} {t : tSt} (hb : b < 12) (hlim : tm0 - wi = lim) (et : t 0 925 = tm0) (ew : t 0 (77 * b + 4) = wi) : ∀ (S : List (Int32 × Int32)) (n i fuel : Nat), S.length < fuel → i + S.length ≤ 12 → r4 = nI (i + S.length) → nA (t 0) b i S →
    Ok (kx (nI (n + (S.filter fun q => decide (¬ q.1 < lim)).length)) t) Q → Ok (fX4_noted_L14 (nI b) (nI 0) r4 kx fuel (nI n) (nI i) t) Q := by
  intro S
  induction S with
  | nil =>
    intro n i fuel hf hi e hS k
    obtain ⟨fuel, rfl⟩ : ∃ n, fuel = n + 1 := ⟨fuel - 1, by omega⟩
    rw [fX4_noted_L14]
    refine ok_iff (by rw [e]; exact nI_nlt (by show i + 0 ≤ i; omega) (by omega)) ?_
    exact k
  | cons x S ih =>
    intro n i fuel hf hi e hS k
    simp only [List.length_cons] at hf hi e
    obtain ⟨fuel, rfl⟩ : ∃ n, fuel = n + 1 := ⟨fuel - 1, by omega⟩
    have x1 : t 0 (77 * b + 65 + i) = x.1 := hS 0 x rfl
    rw [fX4_noted_L14]
    refine ok_ift (by rw [e]; exact nI_lt (by omega) (by omega)) ?_
    refine ok_obE (x4_atE (x := x.1) (f := 65 + i) (by rw [nI_add]) (by omega) (by rw [← Nat.add_assoc]; exact x1)) ?_
    refine ok_rv (x4_trd (by decide) et) ?_
    refine ok_obE (x4_atE (f := 4) rfl (by omega) ew) ?_
    refine ok_jn ?_
    by_cases c : x.1 < tm0 - wi
    · refine ok_ift c ?_
      refine ok_letv ?_
      rw [nI_add]
      have ef : (x :: S).filter (fun q => decide (¬ q.1 < lim)) = S.filter (fun q => decide (¬ q.1 < lim)) := List.filter_cons_of_neg (by rw [hlim] at c; simpa using c)
      rw [ef] at k
      exact ih n (i + 1) fuel (by omega) (by omega) (by rw [e]; congr 1; omega) hS.tail k
    · refine ok_iff c ?_
      refine ok_jn ?_
      refine ok_ift rfl ?_
      refine ok_letv ?_
      refine ok_letv ?_
      rw [nI_add, nI_add]
      have ef : (x :: S).filter (fun q => decide (¬ q.1 < lim)) = x :: S.filter (fun q => decide (¬ q.1 < lim)) := List.filter_cons_of_pos (by rw [hlim] at c; simpa using c)
      rw [ef, List.length_cons] at k
      exact ih (n + 1) (i + 1) fuel (by omega) (by omega) (by rw [e]; congr 1; omega) hS.tail (by rw [Nat.add_assoc, Nat.add_comm 1]; exact k)
/-- those that count yet -/
theorem x4_notedZ {t : tSt} {w : aW} {p : Nat} (h : Rt (t 0) w) (hp : p < aN w) : fX4_noted (nI p) (nI 0) t = some (nI (aKept w p).length, t) := by
  have hN := h.n12
  have hcap : (aL w p 4).length ≤ 12 := h.cap hp 4 (by decide)
  have : Ok (fX4_noted (nI p) (nI 0) t) (fun r t' => r = nI (aKept w p).length ∧ t' = t) := by
    unfold fX4_noted
    refine ok_obE (x4_atE (f := 64) rfl (by omega) (h.len hp 4 (by decide))) ?_
    refine x4_nt14z (b := p) (tm0 := aG w 0) (wi := aF w p 4) (by omega) rfl (h.glo 0 (by decide)) (h.fld hp (by decide)) (aL w p 4) 0 0 FU (by unfold FU; omega) (by omega) (by rw [Nat.zero_add]) (h.noted hp) ?_
    rw [Nat.zero_add]
    refine ok_ift rfl ?_
    exact ok_some ⟨rfl, rfl⟩
  obtain ⟨r, t', e, rfl, rfl⟩ := this
  exact e
theorem x4_over {t : tSt} {w : aW} {p : Nat} (h : Rt (t 0) w) (hp : p < aN w) (h9 : (aL w p 4).length ≤ 9) : Ok (fX4_isOverBudget (nI p) t) (fun r t' => r = (if aF w p 3 < nI ((aKept w p).length + 1) then nI 1 else nI 0) ∧ Rt (t' 0) (aNote w p) ∧ tK t t') := by
  have hN := h.n12
  have e0 : t 0 925 = aG w 0 := h.glo 0 (by decide)
  have e3 : t 0 (77 * p + 3) = aF w p 3 := h.fld hp (by decide)
  have hk9 : (aKept w p).length ≤ 9 := Nat.le_trans aKept_le h9
  unfold fX4_isOverBudget
  have hn : Ok (fX4_noted (nI p) (nI 1) t) (fun r t' => r = nI (aKept w p).length ∧ tK t t' ∧ (∀ j, (j < 77 * p + 64 ∨ 77 * p + 77 ≤ j) → t' 0 j = t 0 j) ∧ nA (t' 0) p 0 (aKept w p)) := by
    unfold fX4_noted
    refine ok_obE (x4_atE (f := 64) rfl (by omega) (h.len hp 4 (by decide))) ?_
    refine x4_nt14 (b := p) (tm0 := aG w 0) (wi := aF w p 4) (by omega) rfl (aL w p 4) [] 0 FU t (by unfold FU; omega) (by omega) (Nat.zero_le _) (by rw [Nat.zero_add]) (fun k x hx => by cases hx) (h.noted hp) e0 (h.fld hp (by decide)) (fun t1 k1 f1 n1 => ?_)
    rw [List.nil_append] at n1 ⊢
    refine ok_iff (by decide) ?_
    refine ok_obE (x4_sets (f := 64) rfl (by omega)) ?_
    refine ok_some ⟨rfl, tK.trans k1 tK_tup, fun j hj => by rw [tup_0, if_neg (by omega), f1 j (by omega)], fun k x hx => by rw [tup_0, if_neg (by omega)]; exact n1 k x hx⟩
  refine ok_ob hn (fun r t1 h1 => ?_)
  obtain ⟨rfl, k1, f1, n1⟩ := h1
  refine ok_rv (x4_trd (by decide) ((f1 _ (by omega)).trans e0)) ?_
  refine ok_obE (x4_sets (f := 65 + (aKept w p).length) (by rw [nI_add]) (by omega)) ?_
  refine ok_obE (x4_sets (f := 64) rfl (by omega)) ?_
  refine ok_obE (x4_atE (x := aF w p 3) (f := 3) rfl (by omega) (by rw [tup_0, if_neg (by omega), tup_0, if_neg (by omega), f1 _ (by omega)]; exact e3)) ?_
  rw [nI_add]
  have hR : Rt (tup (tup t1 0 (77 * p + (65 + (aKept w p).length)) (aG w 0)) 0 (77 * p + 64) (nI ((aKept w p).length + 1)) 0) (aNote w p) := by
    unfold aNote
    refine h.setL hp (k := 4) (by decide) (fun i hi => ?_) ⟨?_, ?_, fun i q hq => ⟨?_, fun z => absurd z (by decide)⟩⟩
    · have hi : i < 77 * p + 64 ∨ 77 * p + 64 + 13 ≤ i := hi
      rw [tup_0, if_neg (by omega), tup_0, if_neg (by omega), f1 i (by omega)]
    · show tup _ 0 (77 * p + 64) _ 0 (77 * p + 64) = _
      rw [tup_0, if_pos rfl, List.length_append]; rfl
    · rw [List.length_append]
      show (aKept w p).length + 1 ≤ 12
      omega
    · show tup _ 0 (77 * p + 64) _ 0 (77 * p + 64 + 1 + 1 * i) = _
      have hlt := (List.getElem?_eq_some_iff.mp hq).1
      rw [List.length_append] at hlt
      have hlt : i < (aKept w p).length + 1 := hlt
      rw [tup_0, if_neg (by omega), tup_0]
      by_cases c : i < (aKept w p).length
      · rw [List.getElem?_append_left c] at hq
        rw [if_neg (by omega), show 77 * p + 64 + 1 + 1 * i = 77 * p + 65 + (0 + i) from by omega]
        exact n1 i q hq
      · have ci : i = (aKept w p).length := by omega
        subst ci
        rw [List.getElem?_append_right (Nat.le_refl _), Nat.sub_self] at hq
        cases hq
        rw [if_pos (by omega)]
  have hK : tK t (tup (tup t1 0 (77 * p + (65 + (aKept w p).length)) (aG w 0)) 0 (77 * p + 64) (nI ((aKept w p).length + 1))) := tK.trans k1 (tK.trans tK_tup tK_tup)
  refine ok_ite (fun c => ?_) (fun c => ?_)
  · exact ok_some ⟨by rw [if_pos c], hR, hK⟩
  · exact ok_some ⟨by rw [if_neg c], hR, hK⟩
