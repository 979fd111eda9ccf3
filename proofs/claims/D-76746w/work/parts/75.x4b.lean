/-! the twin: forgets, unwatches, stops -/
/-- timers from place i on -/
def tAr (g : Nat → Int32) (i : Nat) (xs : List (Int32 × Int32 × Int32)) : Prop := ∀ k x, xs[k]? = some x → g (932 + 3 * (i + k)) = x.1 ∧ g (933 + 3 * (i + k)) = x.2.1 ∧ g (934 + 3 * (i + k)) = x.2.2
theorem tAr.tail {g : Nat → Int32} {i : Nat} {x : Int32 × Int32 × Int32} {xs : List (Int32 × Int32 × Int32)} (h : tAr g i (x :: xs)) : tAr g (i + 1) xs := fun k y hy => by
  have := h (k + 1) y hy
  rw [show i + 1 + k = i + (k + 1) from by omega]
  exact this
theorem x4_fg51 {a l i : Nat} {kx : tSt → Option (Unit × tSt)} {Q : Unit → tSt → Prop} (hl : l ≤ i) (hi : i < 10) : ∀ (n j fuel : Nat) (t : tSt), n < fuel → j + n = 3 →
    (∀ t' : tSt, tK t t' → (∀ q, t' 0 q = if 932 + 3 * l + j ≤ q ∧ q < 935 + 3 * l then t 0 (q + 3 * i - 3 * l) else t 0 q) → Ok (kx t') Q) → Ok (fX4_forgets_L51 (nI a) (nI l) (nI i) kx fuel (nI j) t) Q := by
  intro n
  induction n with
  | zero =>
    intro j fuel t hf hj k
    obtain ⟨fuel, rfl⟩ : ∃ n, fuel = n + 1 := ⟨fuel - 1, by omega⟩
    rw [fX4_forgets_L51]
    refine ok_iff (nI_nlt (by omega) (by omega)) ?_
    exact k t (tK.rf t) (fun q => by rw [if_neg (by omega)])
  | succ n ih =>
    intro j fuel t hf hj k
    obtain ⟨fuel, rfl⟩ : ∃ n, fuel = n + 1 := ⟨fuel - 1, by omega⟩
    rw [fX4_forgets_L51]
    refine ok_ift (nI_lt (by omega) (by omega)) ?_
    rw [nI_mul, nI_mul, nI_add, nI_add, nI_add, nI_add]
    refine ok_rv (trd_n (by show _ < 1018; omega)) ?_
    refine ok_rv (twr_n (by show _ < 1018; omega)) ?_
    refine ok_letv ?_
    rw [nI_add]
    refine ih (j + 1) fuel _ (by omega) (by omega) (fun t' h1 h2 => k t' (tK.trans tK_tup h1) (fun q => ?_))
    rw [h2]
    by_cases c : 932 + 3 * l + (j + 1) ≤ q ∧ q < 935 + 3 * l
    · rw [if_pos c, if_pos (by omega), tup_0, if_neg (by omega)]
    · rw [if_neg c, tup_0]
      by_cases c2 : q = 932 + 3 * l + j
      · rw [if_pos c2, if_pos (by omega)]
        congr 1
        omega
      · rw [if_neg c2, if_neg (by omega)]
theorem x4_fg20 {a : Nat} {kx : Int32 → tSt → Option (Unit × tSt)} {Q : Unit → tSt → Prop} : ∀ (S P : List (Int32 × Int32 × Int32)) (i fuel : Nat) (t : tSt), S.length < fuel → i + S.length ≤ 10 → P.length ≤ i → t 0 931 = nI (i + S.length) → tAr (t 0) 0 P → tAr (t 0) i S →
    (∀ t' : tSt, tK t t' → (∀ j, (j < 932 ∨ 962 ≤ j) → t' 0 j = t 0 j) → tAr (t' 0) 0 (P ++ S.filter fun t => !(t.1 == nI a)) → Ok (kx (nI (P ++ S.filter fun t => !(t.1 == nI a)).length) t') Q) → Ok (fX4_forgets_L20 (nI a) kx fuel (nI P.length) (nI i) t) Q := by
  intro S
  induction S with
  | nil =>
    intro P i fuel t hf hi hp e hP hS k
    obtain ⟨fuel, rfl⟩ : ∃ n, fuel = n + 1 := ⟨fuel - 1, by omega⟩
    rw [fX4_forgets_L20]
    refine ok_rv (x4_trd (by decide) e) ?_
    refine ok_iff (nI_nlt (by show i + 0 ≤ i; omega) (by omega)) ?_
    have := k t (tK.rf t) (fun _ _ => rfl)
    rw [List.filter_nil, List.append_nil] at this
    exact this hP
  | cons x S ih =>
    intro P i fuel t hf hi hp e hP hS k
    simp only [List.length_cons] at hf hi e
    obtain ⟨fuel, rfl⟩ : ∃ n, fuel = n + 1 := ⟨fuel - 1, by omega⟩
    obtain ⟨x1, x2, x3⟩ := hS 0 x rfl
    rw [Nat.add_zero] at x1 x2 x3
    rw [fX4_forgets_L20]
    refine ok_rv (x4_trd (by decide) e) ?_
    refine ok_ift (nI_lt (by omega) (by omega)) ?_
    refine ok_rv (x := trd t 0 (nI 932 + nI 3 * nI i)) (by rw [nI_mul, nI_add]; exact x4_trd (by omega) x1) ?_
    refine ok_jn ?_
    by_cases c : x.1 = nI a
    · refine ok_ift c ?_
      refine ok_letv ?_
      rw [nI_add]
      have ef : (x :: S).filter (fun t => !(t.1 == nI a)) = S.filter (fun t => !(t.1 == nI a)) := List.filter_cons_of_neg (by rw [c]; simp)
      rw [ef] at k
      exact ih P (i + 1) fuel t (by omega) (by omega) (by omega) (by rw [e]; congr 1; omega) hP hS.tail k
    · refine ok_iff c ?_
      refine x4_fg51 hp (by omega) 3 0 FU t (by unfold FU; omega) rfl (fun t1 k1 f1 => ?_)
      refine ok_letv ?_
      refine ok_letv ?_
      rw [nI_add, nI_add]
      have ef : (x :: S).filter (fun t => !(t.1 == nI a)) = x :: S.filter (fun t => !(t.1 == nI a)) := List.filter_cons_of_pos (by simpa using c)
      rw [ef] at k
      have el : P.length + 1 = (P ++ [x]).length := by rw [List.length_append]; rfl
      rw [el]
      refine ih (P ++ [x]) (i + 1) fuel t1 (by omega) (by omega) (by rw [← el]; omega) (by rw [f1, if_neg (by omega), e]; congr 1; omega) (fun q y hy => ?_) (fun q y hy => ?_) (fun t' k2 f2 h2 => ?_)
      · by_cases cq : q < P.length
        · rw [List.getElem?_append_left cq] at hy
          have := hP q y hy
          rw [Nat.zero_add] at this ⊢
          rw [f1, f1, f1, if_neg (by omega), if_neg (by omega), if_neg (by omega)]
          exact this
        · have hq : q = P.length := by
            have := (List.getElem?_eq_some_iff.mp hy).1
            rw [← el] at this
            omega
          subst hq
          rw [List.getElem?_append_right (Nat.le_refl _), Nat.sub_self] at hy
          cases hy
          rw [Nat.zero_add, f1, f1, f1, if_pos (by omega), if_pos (by omega), if_pos (by omega), show 932 + 3 * P.length + 3 * i - 3 * P.length = 932 + 3 * i from by omega, show 933 + 3 * P.length + 3 * i - 3 * P.length = 933 + 3 * i from by omega, show 934 + 3 * P.length + 3 * i - 3 * P.length = 934 + 3 * i from by omega]
          exact ⟨x1, x2, x3⟩
      · have := hS.tail q y hy
        rw [f1, f1, f1, if_neg (by omega), if_neg (by omega), if_neg (by omega)]
        exact this
      · have h3 := k t' (tK.trans k1 k2) (fun j hj => by rw [f2 j hj, f1, if_neg (by omega)])
        rw [List.append_assoc] at h2 ⊢
        exact h3 h2
theorem Rt.tim {g : Nat → Int32} {w : aW} (h : Rt g w) : tAr g 0 (aT w) := fun k x hx => by
  rw [Nat.zero_add]
  exact h.2.2.2.1.2.2 k x hx
theorem x4_forgets {t : tSt} {w : aW} {a : Nat} (h : Rt (t 0) w) (ha : a < aN w) (h1 : 1 ≤ (aL w a 0).length) : Ok (fX4_forgets (nI a) t) (fun _ t' => Rt (t' 0) (aForget w a) ∧ tK t t') := by
  have hN := h.n12
  unfold fX4_forgets
  refine ok_obE (x4_sets (f := 7) rfl (by omega)) ?_
  refine ok_obE (x4_sets (f := 64) rfl (by omega)) ?_
  have s1 : Rt (tup t 0 (77 * a + 7) (nI 1) 0) (uL w a 0 ((aL w a 0).take 1)) := by
    refine h.setL ha (k := 0) (by decide) (fun i hi => ?_) ⟨?_, ?_, fun i p hp => ?_⟩
    · have hi : i < 77 * a + 7 ∨ 77 * a + 7 + 6 ≤ i := hi
      rw [tup_0, if_neg (by omega)]
    · show tup t 0 (77 * a + 7) (nI 1) 0 (77 * a + 7) = _
      rw [tup_0, if_pos rfl, List.length_take, Nat.min_eq_left h1]
    · rw [List.length_take]
      show _ ≤ 5
      omega
    · have hi : i = 0 := by
        have := (List.getElem?_eq_some_iff.mp hp).1
        rw [List.length_take] at this
        omega
      subst hi
      rw [List.getElem?_take, if_pos (by decide)] at hp
      have := ((h.row ha 0 (by decide)).2.2 0 p hp).1
      refine ⟨?_, fun q => absurd q (by decide)⟩
      show tup t 0 (77 * a + 7) (nI 1) 0 (77 * a + 7 + 1 + 1 * 0) = _
      rw [tup_0, if_neg (by omega)]
      exact this
  have s2 : Rt (tup (tup t 0 (77 * a + 7) (nI 1)) 0 (77 * a + 64) (nI 0) 0) (uL (uL w a 0 ((aL w a 0).take 1)) a 4 []) := by
    refine s1.setL ha (k := 4) (by decide) (fun i hi => ?_) ⟨?_, Nat.zero_le _, fun i p hp => by cases hp⟩
    · have hi : i < 77 * a + 64 ∨ 77 * a + 64 + 13 ≤ i := hi
      rw [tup_0, if_neg (by omega)]
    · show tup (tup t 0 (77 * a + 7) (nI 1)) 0 (77 * a + 64) (nI 0) 0 (77 * a + 64) = _
      rw [tup_0, if_pos rfl]; rfl
  have hT : (aT w).length ≤ 10 := h.2.2.2.1.2.1
  refine x4_fg20 (aT w) [] 0 FU _ (by unfold FU; omega) (by omega) (Nat.zero_le _) (by rw [Nat.zero_add]; exact s2.2.2.2.1.1) (fun k x hx => by cases hx) s2.tim (fun t' k1 f1 h1 => ?_)
  rw [List.nil_append] at h1 ⊢
  refine ok_rv (twr_n (by decide)) ?_
  refine ok_some ⟨?_, tK.trans tK_tup (tK.trans tK_tup (tK.trans k1 tK_tup))⟩
  unfold aForget
  refine s2.setT (fun j hj => ?_) ⟨by rw [tup_0, if_pos rfl], Nat.le_trans (List.length_filter_le _ _) hT, fun i x hx => ?_⟩
  · rw [tup_0, if_neg (by omega), f1 j (by omega)]
  · have := h1 i x hx
    rw [Nat.zero_add] at this
    rw [tup_0, tup_0, tup_0, if_neg (by omega), if_neg (by omega), if_neg (by omega)]
    exact this
/-- watchers of b from place i on -/
def wA (g : Nat → Int32) (b i : Nat) (xs : List (Int32 × Int32)) : Prop := ∀ k x, xs[k]? = some x → g (77 * b + 52 + (i + k)) = x.1
theorem wA.tail {g : Nat → Int32} {b i : Nat} {x : Int32 × Int32} {xs : List (Int32 × Int32)} (h : wA g b i (x :: xs)) : wA g b (i + 1) xs := fun k y hy => by
  have := h (k + 1) y hy
  rw [show i + 1 + k = i + (k + 1) from by omega]
  exact this
theorem x4_uw28 {a b : Nat} {r4 : Int32} {kx : Int32 → tSt → Option (Unit × tSt)} {Q : Unit → tSt → Prop} (hb : b < 12) : ∀ (S P : List (Int32 × Int32)) (i fuel : Nat) (t : tSt), S.length < fuel → i + S.length ≤ 12 → P.length ≤ i → r4 = nI (i + S.length) → wA (t 0) b 0 P → wA (t 0) b i S →
    (∀ t' : tSt, tK t t' → (∀ j, (j < 77 * b + 52 ∨ 77 * b + 64 ≤ j) → t' 0 j = t 0 j) → wA (t' 0) b 0 (P ++ S.filter fun q => !(q.1 == nI a)) → Ok (kx (nI (P ++ S.filter fun q => !(q.1 == nI a)).length) t') Q) → Ok (fX4_unwatches_L28 (nI a) (nI b) r4 kx fuel (nI P.length) (nI i) t) Q := by
  intro S
  induction S with
  | nil =>
    intro P i fuel t hf hi hp e hP hS k
    obtain ⟨fuel, rfl⟩ : ∃ n, fuel = n + 1 := ⟨fuel - 1, by omega⟩
    rw [fX4_unwatches_L28]
    refine ok_iff (by rw [e]; exact nI_nlt (by show i + 0 ≤ i; omega) (by omega)) ?_
    have := k t (tK.rf t) (fun _ _ => rfl)
    rw [List.filter_nil, List.append_nil] at this
    exact this hP
  | cons x S ih =>
    intro P i fuel t hf hi hp e hP hS k
    simp only [List.length_cons] at hf hi e
    obtain ⟨fuel, rfl⟩ : ∃ n, fuel = n + 1 := ⟨fuel - 1, by omega⟩
    have x1 : t 0 (77 * b + 52 + i) = x.1 := hS 0 x rfl
    rw [fX4_unwatches_L28]
    refine ok_ift (by rw [e]; exact nI_lt (by omega) (by omega)) ?_
    refine ok_obE (x4_atE (x := x.1) (f := 52 + i) (by rw [nI_add]) (by omega) (by rw [← Nat.add_assoc]; exact x1)) ?_
    refine ok_jn ?_
    by_cases c : x.1 = nI a
    · refine ok_ift c ?_
      refine ok_letv ?_
      rw [nI_add]
      have ef : (x :: S).filter (fun q => !(q.1 == nI a)) = S.filter (fun q => !(q.1 == nI a)) := List.filter_cons_of_neg (by rw [c]; simp)
      rw [ef] at k
      exact ih P (i + 1) fuel t (by omega) (by omega) (by omega) (by rw [e]; congr 1; omega) hP hS.tail k
    · refine ok_iff c ?_
      refine ok_obE (x4_atE (x := x.1) (f := 52 + i) (by rw [nI_add]) (by omega) (by rw [← Nat.add_assoc]; exact x1)) ?_
      refine ok_obE (x4_sets (f := 52 + P.length) (by rw [nI_add]) (by omega)) ?_
      refine ok_letv ?_
      refine ok_letv ?_
      rw [nI_add, nI_add]
      have ef : (x :: S).filter (fun q => !(q.1 == nI a)) = x :: S.filter (fun q => !(q.1 == nI a)) := List.filter_cons_of_pos (by simpa using c)
      rw [ef] at k
      have el : P.length + 1 = (P ++ [x]).length := by rw [List.length_append]; rfl
      rw [el]
      refine ih (P ++ [x]) (i + 1) fuel _ (by omega) (by omega) (by rw [← el]; omega) (by rw [e]; congr 1; omega) (fun q y hy => ?_) (fun q y hy => ?_) (fun t' k2 f2 h2 => ?_)
      · by_cases cq : q < P.length
        · rw [List.getElem?_append_left cq] at hy
          have := hP q y hy
          rw [Nat.zero_add] at this ⊢
          rw [tup_0, if_neg (by omega)]
          exact this
        · have hq : q = P.length := by
            have := (List.getElem?_eq_some_iff.mp hy).1
            rw [← el] at this
            omega
          subst hq
          rw [List.getElem?_append_right (Nat.le_refl _), Nat.sub_self] at hy
          cases hy
          rw [Nat.zero_add, tup_0, if_pos (by omega)]
      · have := hS.tail q y hy
        rw [tup_0, if_neg (by omega)]
        exact this
      · have h3 := k t' (tK.trans tK_tup k2) (fun j hj => by rw [f2 j hj, tup_0, if_neg (by omega)])
        rw [List.append_assoc] at h2 ⊢
        exact h3 h2
/-- the watchers of those below i -/
def aUnwI (w : aW) (a i : Nat) : aW := (aN w, aF w, fun b k => if k = 3 ∧ b < i then (aL w b 3).filter (fun q => !(q.1 == nI a)) else aL w b k, aG w, aT w, aO w, aC w)
theorem Rt.watch {g : Nat → Int32} {w : aW} {b : Nat} (h : Rt g w) (hb : b < aN w) : wA g b 0 (aL w b 3) := fun k x hx => by
  have := ((h.row hb 3 (by decide)).2.2 k x hx).1
  have e : 77 * b + rB 3 + 1 + rS 3 * k = 77 * b + 52 + (0 + k) := by
    show 77 * b + 51 + 1 + 1 * k = _
    omega
  rw [e] at this
  exact this
theorem x4_uw2 {a : Nat} {w : aW} {kx : tSt → Option (Unit × tSt)} {Q : Unit → tSt → Prop} : ∀ (n i fuel : Nat) (t : tSt), n < fuel → i + n = aN w → Rt (t 0) (aUnwI w a i) →
    (∀ t' : tSt, tK t t' → Rt (t' 0) (aUnw w a) → Ok (kx t') Q) → Ok (fX4_unwatches_L2 (nI a) kx fuel (nI i) t) Q := by
  intro n
  induction n with
  | zero =>
    intro i fuel t hf hi h k
    have hN : aN w ≤ 12 := h.n12
    obtain ⟨fuel, rfl⟩ : ∃ n, fuel = n + 1 := ⟨fuel - 1, by omega⟩
    rw [fX4_unwatches_L2]
    refine ok_rv (x4_trd (by decide) h.1.1) ?_
    refine ok_iff (nI_nlt (by show aN w ≤ i; omega) (by omega)) ?_
    have e : i = aN w := by omega
    rw [e] at h
    exact k t (tK.rf t) h
  | succ n ih =>
    intro i fuel t hf hi h k
    have hN : aN w ≤ 12 := h.n12
    have hi2 : i < aN w := by omega
    obtain ⟨fuel, rfl⟩ : ∃ n, fuel = n + 1 := ⟨fuel - 1, by omega⟩
    rw [fX4_unwatches_L2]
    refine ok_rv (x4_trd (by decide) h.1.1) ?_
    refine ok_ift (nI_lt (by exact hi2) (by show aN w < _; omega)) ?_
    have eL : aL (aUnwI w a i) i 3 = aL w i 3 := by
      show (if (3 : Nat) = 3 ∧ i < i then _ else _) = _
      rw [if_neg (by omega)]
    have hlen := h.len (a := i) hi2 3 (by decide)
    have hcap := h.cap (a := i) hi2 3 (by decide)
    have hwat := h.watch (b := i) hi2
    rw [eL] at hlen hcap hwat
    have hcap : (aL w i 3).length ≤ 12 := hcap
    refine ok_obE (x4_atE (f := 51) rfl (by omega) hlen) ?_
    refine x4_uw28 (by omega) (aL w i 3) [] 0 FU t (by unfold FU; omega) (by omega) (Nat.zero_le _) (by rw [Nat.zero_add]) (fun k x hx => by cases hx) hwat (fun t1 k1 f1 h1 => ?_)
    rw [List.nil_append] at h1 ⊢
    refine ok_obE (x4_sets (f := 51) rfl (by omega)) ?_
    refine ok_letv ?_
    rw [nI_add]
    refine ih (i + 1) fuel _ (by omega) (by omega) ?_ (fun t' k2 h2 => k t' (tK.trans k1 (tK.trans tK_tup k2)) h2)
    have e : aUnwI w a (i + 1) = uL (aUnwI w a i) i 3 ((aL w i 3).filter fun q => !(q.1 == nI a)) := by
      unfold aUnwI uL
      refine congrArg (fun z => (aN w, aF w, z, aG w, aT w, aO w, aC w)) ?_
      funext b j
      show (if j = 3 ∧ b < i + 1 then _ else _) = if b = i ∧ j = 3 then _ else if j = 3 ∧ b < i then _ else _
      by_cases c : b = i ∧ j = 3
      · rw [if_pos c, if_pos (by omega), c.1]
      · rw [if_neg c]
        by_cases c2 : j = 3 ∧ b < i
        · rw [if_pos c2, if_pos (by omega)]
        · rw [if_neg c2, if_neg (by omega)]
    rw [e]
    refine h.setL (a := i) (k := 3) hi2 (by decide) (fun j hj => ?_) ⟨?_, Nat.le_trans (List.length_filter_le _ _) hcap, fun j p hp => ⟨?_, fun q => absurd q (by decide)⟩⟩
    · have hj : j < 77 * i + 51 ∨ 77 * i + 51 + 13 ≤ j := hj
      rw [tup_0, if_neg (by omega), f1 j (by omega)]
    · show tup t1 0 (77 * i + 51) _ 0 (77 * i + 51) = _
      rw [tup_0, if_pos rfl]
    · have := h1 j p hp
      show tup t1 0 (77 * i + 51) _ 0 (77 * i + 51 + 1 + 1 * j) = _
      rw [tup_0, if_neg (by omega), show 77 * i + 51 + 1 + 1 * j = 77 * i + 52 + (0 + j) from by omega]
      exact this
theorem x4_unwatches {t : tSt} {w : aW} {a : Nat} (h : Rt (t 0) w) : Ok (fX4_unwatches (nI a) t) (fun _ t' => Rt (t' 0) (aUnw w a) ∧ tK t t') := by
  have hN := h.n12
  unfold fX4_unwatches
  have e : aUnwI w a 0 = w := by
    unfold aUnwI
    have : (fun b k => if k = 3 ∧ b < 0 then (aL w b 3).filter (fun q => !(q.1 == nI a)) else aL w b k) = aL w := by
      funext b k
      rw [if_neg (by omega)]
    rw [this]
  exact x4_uw2 (w := w) (aN w) 0 FU t (by unfold FU; omega) (by omega) (by rw [e]; exact h) (fun t' k1 h1 => ok_some ⟨h1, k1⟩)
theorem x4_told {a : Nat} {m2 v2 : Int32} {kx : tSt → Option (Unit × tSt)} {Q : Unit → tSt → Prop} (ha : a < 12) (hm : m2 = nI 1000 + nI a) : ∀ (ws : List (Int32 × Int32)) (i fuel : Nat) (w : aW) (t : tSt), ws.length < fuel → i + ws.length ≤ 12 → v2 = nI (i + ws.length) → Rt (t 0) w → wA (t 0) a i ws → (∀ q ∈ ws, ∃ j, j < aN w ∧ q = (nI j, nI 0)) →
    (∀ t' : tSt, tK t t' → Rt (t' 0) (aTold (-1, m2) ws w) → Ok (kx t') Q) → Ok (fX4_stops_L56 (nI a) v2 kx fuel (nI i) t) Q := by
  intro ws
  induction ws with
  | nil =>
    intro i fuel w t hf hi e h hS hj k
    obtain ⟨fuel, rfl⟩ : ∃ n, fuel = n + 1 := ⟨fuel - 1, by omega⟩
    rw [fX4_stops_L56]
    refine ok_iff (by rw [e]; exact nI_nlt (by show i + 0 ≤ i; omega) (by omega)) ?_
    exact k t (tK.rf t) h
  | cons x ws ih =>
    intro i fuel w t hf hi e h hS hj k
    simp only [List.length_cons] at hf hi e
    obtain ⟨fuel, rfl⟩ : ∃ n, fuel = n + 1 := ⟨fuel - 1, by omega⟩
    have hN := h.n12
    obtain ⟨j, j1, ex⟩ := hj x List.mem_cons_self
    have x1 : t 0 (77 * a + 52 + i) = x.1 := hS 0 x rfl
    rw [fX4_stops_L56]
    refine ok_ift (by rw [e]; exact nI_lt (by omega) (by omega)) ?_
    refine ok_obE (x4_atE (x := nI j) (f := 52 + i) (by rw [nI_add]) (by omega) (by rw [← Nat.add_assoc, x1, ex])) ?_
    rw [← hm]
    refine ok_ob (x4_sends h j1) (fun r t1 h1 => ?_)
    obtain ⟨-, r1, k1, w1⟩ := h1
    refine ok_letv ?_
    rw [nI_add]
    have ej : x.1.toNatClampNeg = j := by rw [ex]; exact nI_clamp (by omega)
    refine ih (i + 1) fuel (aSends w j (-1, m2)).2 t1 (by omega) (by omega) (by rw [e]; congr 1; omega) r1 (fun q y hy => ?_) (fun q hq => ?_) (fun t' k2 h2 => k t' (tK.trans k1 k2) ?_)
    · have := hS.tail q y hy
      have hq := (List.getElem?_eq_some_iff.mp hy).1
      rw [w1 a _ ha (by omega) (by omega)]
      exact this
    · rw [aM_sends.1]
      exact hj q (List.mem_cons_of_mem _ hq)
    · show Rt (t' 0) (aTold (-1, m2) ws (aSends w x.1.toNatClampNeg (-1, m2)).2)
      rw [ej]
      exact h2
theorem aBelowN_id {f : aW → Nat → aW} {w : aW} {tm a : Nat} (h : aI w tm) (ha : a < 12) : ∀ i, i ≤ a + 1 → i ≤ aN w → aBelowN f a i w = w := by
  intro i
  induction i with
  | zero => exact fun _ _ => rfl
  | succ i ih =>
    intro h1 h2
    unfold aBelowN
    rw [if_neg (fun q => by have := h.child (c := i) (a := a) (by omega) (by omega) q.1; omega)]
    exact ih (by omega) (by omega)
theorem x4_below {rec : Int32 → tSt → Option (Unit × tSt)} {f : aW → Nat → aW} {tm a n : Nat} {kx : tSt → Option (Unit × tSt)} {Q : Unit → tSt → Prop} (ha : a < 12) (hm : ∀ w a, aM w (f w a)) (hI : ∀ w a, aI w tm → a < aN w → aN w ≤ a + n → aI (f w a) tm ∧ aF (f w a) a 5 = nI 0)
    (hrec : ∀ (w : aW) (c : Nat) (t : tSt), Rt (t 0) w → aI w tm → c < aN w → aN w ≤ c + n → Ok (rec (nI c) t) (fun _ t' => Rt (t' 0) (f w c) ∧ tK t t')) : ∀ (i fuel : Nat) (w : aW) (t : tSt), i < fuel → Rt (t 0) w → aI w tm → i ≤ aN w → aN w ≤ a + 1 + n →
    (∀ t' : tSt, tK t t' → Rt (t' 0) (aBelowN f a i w) → Ok (kx t') Q) → Ok (fX4_stopsChildren_L11 rec (nI a) kx fuel (nI i - nI 1) t) Q := by
  intro i
  induction i with
  | zero =>
    intro fuel w t hf h hi hN2 hn k
    obtain ⟨fuel, rfl⟩ : ∃ n, fuel = n + 1 := ⟨fuel - 1, by omega⟩
    rw [fX4_stopsChildren_L11]
    refine ok_iff (fun q => ?_) ?_
    · have := i_lt.mp q
      rw [nI_i (by omega)] at this
      have e : (nI 0 - nI 1).toInt = -1 := by decide
      omega
    · exact k t (tK.rf t) h
  | succ i ih =>
    intro fuel w t hf h hi hN2 hn k
    have hN := h.n12
    obtain ⟨fuel, rfl⟩ : ∃ n, fuel = n + 1 := ⟨fuel - 1, by omega⟩
    rw [fX4_stopsChildren_L11, nI_sub (by omega), Nat.add_sub_cancel]
    by_cases c : a < i
    · refine ok_ift (nI_lt c (by omega)) ?_
      have e0 : t 0 (77 * i + 0) = aF w i 0 := h.fld (by omega) (by decide)
      have e5 : t 0 (77 * i + 5) = aF w i 5 := h.fld (by omega) (by decide)
      unfold aBelowN at k
      by_cases c2 : aF w i 0 = nI a ∧ aF w i 5 = nI 1
      · rw [if_pos c2] at k
        refine ok_obE (x4_childT (by omega) (e0.trans c2.1) (e5.trans c2.2)) ?_
        refine ok_jn ?_
        refine ok_iff (by decide) ?_
        refine ok_ob (hrec w i t h hi (by omega) (by omega)) (fun _ t1 h1 => ?_)
        refine ok_letv ?_
        rw [nI_m1]
        exact ih fuel (f w i) t1 (by omega) h1.1 (hI w i hi (by omega) (by omega)).1 (by rw [(hm w i).1]; omega) (by rw [(hm w i).1]; exact hn) (fun t' k2 h2 => k t' (tK.trans h1.2 k2) h2)
      · rw [if_neg c2] at k
        refine ok_obE (x4_childF (by omega) (by rw [e0, e5]; exact c2)) ?_
        refine ok_jn ?_
        refine ok_ift rfl ?_
        refine ok_letv ?_
        rw [nI_m1]
        exact ih fuel w t (by omega) h hi (by omega) hn k
    · refine ok_iff (nI_nlt (by omega) (by omega)) ?_
      rw [aBelowN_id hi ha (i + 1) (by omega) hN2] at k
      exact k t (tK.rf t) h
theorem x4_stops {tm : Nat} : ∀ (n : Nat) (w : aW) (a : Nat) (t : tSt), Rt (t 0) w → aI w tm → a < aN w → aN w ≤ a + n → Ok (fX4_stops n (nI a) t) (fun _ t' => Rt (t' 0) (aStop n w a) ∧ tK t t') := by
  intro n
  induction n with
  | zero => intro w a t h hi ha hn; omega
  | succ n ih =>
    intro w a t h hi ha hn
    have hN := h.n12
    rw [fX4_stops]
    have hch : Ok (fX4_stopsChildren (fX4_stops n) (nI a) t) (fun _ t' => Rt (t' 0) (aBelow (aStop n) w a) ∧ tK t t') := by
      unfold fX4_stopsChildren
      refine ok_rv (x4_trd (by decide) h.1.1) ?_
      refine ok_letv ?_
      exact x4_below (by omega) (aM_stop n) (aI_stop n) ih (aN w) FU w t (by unfold FU; omega) h hi (Nat.le_refl _) (by omega) (fun t' k1 h1 => ok_some ⟨h1, k1⟩)
    refine ok_ob hch (fun _ t1 h1 => ?_)
    obtain ⟨r1, k1⟩ := h1
    have m1 := aM_below n w a
    have i1 : aI (aBelow (aStop n) w a) tm := (aI_belowN (n := n) (aM_stop n) (aI_stop n) (a := a) (by omega) (aN w) w hi (Nat.le_refl _) (by omega)).1
    show Ok _ (fun _ t' => Rt (t' 0) (aGone (aBelow (aStop n) w a) a) ∧ tK t t')
    have ha1 : a < aN (aBelow (aStop n) w a) := by rw [m1.1]; exact ha
    generalize aBelow (aStop n) w a = w1 at r1 i1 ha1 ⊢
    have hN1 := r1.n12
    refine ok_obE (x4_sets (f := 5) rfl (by omega)) ?_
    refine ok_obE (x4_sets (f := 13) rfl (by omega)) ?_
    refine ok_obE (x4_sets (f := 38) rfl (by omega)) ?_
    have s1 : Rt (tup t1 0 (77 * a + 5) (nI 0) 0) (uF w1 a 5 (nI 0)) := r1.setF ha1 (by decide) (fun i => tup_0 t1 _ _ i)
    have s2 : Rt (tup (tup t1 0 (77 * a + 5) (nI 0)) 0 (77 * a + 13) (nI 0) 0) (uL (uF w1 a 5 (nI 0)) a 1 []) := by
      refine s1.setL ha1 (k := 1) (by decide) (fun i hi => ?_) ⟨?_, Nat.zero_le _, fun i p hp => by cases hp⟩
      · have hi : i < 77 * a + 13 ∨ 77 * a + 13 + 25 ≤ i := hi
        rw [tup_0, if_neg (by omega)]
      · show tup (tup t1 0 (77 * a + 5) (nI 0)) 0 (77 * a + 13) (nI 0) 0 (77 * a + 13) = _
        rw [tup_0, if_pos rfl]; rfl
    have s3 : Rt (tup (tup (tup t1 0 (77 * a + 5) (nI 0)) 0 (77 * a + 13) (nI 0)) 0 (77 * a + 38) (nI 0) 0) (uL (uL (uF w1 a 5 (nI 0)) a 1 []) a 2 []) := by
      refine s2.setL ha1 (k := 2) (by decide) (fun i hi => ?_) ⟨?_, Nat.zero_le _, fun i p hp => by cases hp⟩
      · have hi : i < 77 * a + 38 ∨ 77 * a + 38 + 13 ≤ i := hi
        rw [tup_0, if_neg (by omega)]
      · show tup (tup (tup t1 0 (77 * a + 5) (nI 0)) 0 (77 * a + 13) (nI 0)) 0 (77 * a + 38) (nI 0) 0 (77 * a + 38) = _
        rw [tup_0, if_pos rfl]; rfl
    refine ok_ob (x4_forgets s3 ha1 (by rw [uL_L, if_neg (by omega), uL_L, if_neg (by omega)]; exact (i1.act ha1).2.1.1.1)) (fun _ t2 h2 => ?_)
    obtain ⟨r2, k2⟩ := h2
    refine ok_ob (x4_unwatches (a := a) r2) (fun _ t3 h3 => ?_)
    obtain ⟨r3, k3⟩ := h3
    have r3 : Rt (t3 0) (aStopped w1 a) := r3
    have k123 : tK t t3 := tK.trans k1 (tK.trans (tK.trans tK_tup (tK.trans tK_tup tK_tup)) (tK.trans k2 k3))
    have ha3 : a < aN (aStopped w1 a) := by rw [aM_stopped.1]; exact ha1
    have hcap : (aL (aStopped w1 a) a 3).length ≤ 12 := r3.cap ha3 3 (by decide)
    refine ok_obE (x4_atE (f := 51) rfl (by omega) (r3.len ha3 3 (by decide))) ?_
    refine ok_obE (x4_sets (f := 51) rfl (by omega)) ?_
    have s4 : Rt (tup t3 0 (77 * a + 51) (nI 0) 0) (uL (aStopped w1 a) a 3 []) := by
      refine r3.setL ha3 (k := 3) (by decide) (fun i hi => ?_) ⟨?_, Nat.zero_le _, fun i p hp => by cases hp⟩
      · have hi : i < 77 * a + 51 ∨ 77 * a + 51 + 13 ≤ i := hi
        rw [tup_0, if_neg (by omega)]
      · show tup t3 0 (77 * a + 51) (nI 0) 0 (77 * a + 51) = _
        rw [tup_0, if_pos rfl]; rfl
    refine x4_told (by omega) rfl (aL (aStopped w1 a) a 3) 0 FU (uL (aStopped w1 a) a 3 []) _ (by unfold FU; omega) (by omega) (by rw [Nat.zero_add]) s4 (fun k x hx => ?_) (fun q hq => ?_) (fun t' k4 h4 => ok_some ⟨h4, tK.trans k123 (tK.trans tK_tup k4)⟩)
    · rw [tup_0, if_neg (by omega)]
      exact r3.watch ha3 k x hx
    · show ∃ j, j < aN (aStopped w1 a) ∧ _
      have hq' : q ∈ (aL w1 a 3).filter (fun q => !(q.1 == nI a)) := by
        have e : aL (aStopped w1 a) a 3 = (aL w1 a 3).filter (fun q => !(q.1 == nI a)) := by
          show (if (3 : Nat) = 3 ∧ a < aN w1 then _ else _) = _
          rw [if_pos ⟨rfl, ha1⟩]
          show (aL (uL (uL (uL (uL (uF w1 a 5 (nI 0)) a 1 []) a 2 []) a 0 _) a 4 []) a 3).filter _ = _
          rw [uL_L, if_neg (by omega), uL_L, if_neg (by omega), uL_L, if_neg (by omega), uL_L, if_neg (by omega)]
          rfl
        rw [← e]; exact hq
      rw [aM_stopped.1]
      exact (i1.act ha1).2.2.2.2.1.2 q (List.mem_filter.mp hq').1
