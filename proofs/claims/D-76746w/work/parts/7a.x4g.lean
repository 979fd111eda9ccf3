/-! THE TWIN: a step -/
theorem aMin_uniq : ∀ (A : List (Int32 × Int32 × Int32)) (x : Int32 × Int32 × Int32) (B : List (Int32 × Int32 × Int32)), (∀ y ∈ A, x.2.1 < y.2.1) → (∀ y ∈ B, ¬ y.2.1 < x.2.1) → aMin (A ++ x :: B) = A.length := by
  intro A
  induction A with
  | nil =>
    intro x B hA hB
    show (if B.all (fun y => decide (¬ y.2.1 < x.2.1)) then 0 else aMin B + 1) = 0
    rw [if_pos (List.all_eq_true.mpr (fun y hy => decide_eq_true (hB y hy)))]
  | cons a A ih =>
    intro x B hA hB
    show (if (A ++ x :: B).all (fun y => decide (¬ y.2.1 < a.2.1)) then 0 else aMin (A ++ x :: B) + 1) = A.length + 1
    have hn : ¬ (A ++ x :: B).all (fun y => decide (¬ y.2.1 < a.2.1)) = true := fun q => by
      have h1 : decide (¬ x.2.1 < a.2.1) = true := List.all_eq_true.mp q x (List.mem_append_right _ List.mem_cons_self)
      exact of_decide_eq_true h1 (hA a List.mem_cons_self)
    rw [if_neg hn, ih x B (fun y hy => hA y (List.mem_cons_of_mem _ hy)) hB]
theorem aMin_push {P : List (Int32 × Int32 × Int32)} {x z : Int32 × Int32 × Int32} (hP : P ≠ []) (hz : P[aMin P]? = some z) : aMin (P ++ [x]) = if x.2.1 < z.2.1 then P.length else aMin P := by
  obtain ⟨A, y, B, e1, e2, e3, e4⟩ := aMin_spec P hP
  have ez : y = z := by
    have hz : (A ++ y :: B)[A.length]? = some z := by rw [← e1, ← e2]; exact hz
    rw [List.getElem?_append_right (Nat.le_refl _), Nat.sub_self] at hz
    exact Option.some.inj hz
  subst ez
  by_cases c : x.2.1 < y.2.1
  · rw [if_pos c]
    refine aMin_uniq P x [] (fun u hu => ?_) (fun u hu => by cases hu)
    rw [e1] at hu
    rcases List.mem_append.mp hu with q | q
    · exact i_lt.mpr (Int.lt_trans (i_lt.mp c) (i_lt.mp (e3 u q)))
    · rcases List.mem_cons.mp q with q | q
      · rw [q]; exact c
      · have := e4 u q
        have h1 := i_lt.mp c
        have h2 : ¬ u.2.1.toInt < y.2.1.toInt := fun z => this (i_lt.mpr z)
        exact i_lt.mpr (by omega)
  · rw [if_neg c, e2, e1, List.append_assoc, List.cons_append]
    refine aMin_uniq A y (B ++ [x]) e3 (fun u hu => ?_)
    rcases List.mem_append.mp hu with q | q
    · exact e4 u q
    · rw [List.mem_singleton.mp q]; exact c
theorem aMin_lt {T : List (Int32 × Int32 × Int32)} (h : T ≠ []) : aMin T < T.length := by
  obtain ⟨A, x, B, e1, e2, -, -⟩ := aMin_spec T h
  rw [e2, e1, List.length_append, List.length_cons]
  omega
section X4G
variable {t : tSt} {w : aW} {a tm : Nat}
theorem aI.from (h : aI w tm) : ∃ L, L ≤ 12 ∧ aG w 3 + nI 1 = nI L ∧ aFrom w = L := by
  rcases h.2.2.2.1.2.2 with e | ⟨j, hj, e⟩
  · refine ⟨0, by omega, by rw [e]; rfl, ?_⟩
    unfold aFrom
    rw [e]; rfl
  · refine ⟨j + 1, by omega, by rw [e, nI_add], ?_⟩
    unfold aFrom
    rw [e, nI_add, nI_clamp (by omega)]
def oN : Option Nat → Int32
  | none => -2
  | some a => nI a
theorem x4_nx {L : Nat} (h : Rt (t 0) w) (hL : L ≤ 12) (eL : aG w 3 + nI 1 = nI L) : ∀ (n k fuel : Nat), n < fuel → k + n = 12 → fX4_nextActor_L2 (fun t11 => some ((-2 : Int32), t11)) fuel (nI (k + 1)) t = some (oN (aNextN w n (L + k)), t) := by
  have hN := h.n12
  intro n
  induction n with
  | zero =>
    intro k fuel hf hk
    obtain ⟨fuel, rfl⟩ : ∃ n, fuel = n + 1 := ⟨fuel - 1, by omega⟩
    rw [fX4_nextActor_L2, if_pos (nI_lt (by omega) (by omega))]
    rfl
  | succ n ih =>
    intro k fuel hf hk
    obtain ⟨fuel, rfl⟩ : ∃ n, fuel = n + 1 := ⟨fuel - 1, by omega⟩
    have key : Ok (fX4_nextActor_L2 (fun t11 => some ((-2 : Int32), t11)) (fuel + 1) (nI (k + 1)) t) (fun r t' => r = oN (aNextN w (n + 1) (L + k)) ∧ t' = t) := by
      have go : Ok (letv (nI (k + 1) + nI 1) (fun y6 => fX4_nextActor_L2 (fun t11 => some ((-2 : Int32), t11)) fuel y6 t)) (fun r t' => r = oN (aNextN w n (L + k + 1)) ∧ t' = t) := by
        refine ok_letv ?_
        rw [nI_add, ih (k + 1) fuel (by omega) (by omega)]
        exact ok_some ⟨rfl, rfl⟩
      rw [fX4_nextActor_L2]
      refine ok_iff (nI_nlt (by omega) (by omega)) ?_
      refine ok_rv (x4_trd (by decide) (h.glo 3 (by decide))) ?_
      refine ok_letv ?_
      have e : irm (aG w 3 + nI (k + 1) + nI 12) (nI 12) = nI ((L + k) % 12) := by
        have e1 : aG w 3 + nI (k + 1) + nI 12 = nI (L + k + 12) := by
          rw [Int32.add_assoc, nI_add, show k + 1 + 12 = 1 + (k + 12) from by omega, ← nI_add 1, ← Int32.add_assoc, eL, nI_add, Nat.add_assoc]
        rw [e1, irm_n (by omega) (by omega) (by omega)]
        congr 1
        omega
      rw [e]
      unfold aNextN
      have hlt : (L + k) % 12 < 12 := Nat.mod_lt _ (by omega)
      generalize (L + k) % 12 = i at hlt
      refine ok_rv (x4_trd (by decide) h.1.1) ?_
      refine ok_jn ?_
      by_cases c : i < aN w
      · refine ok_ift (nI_lt c (by omega)) ?_
        have e5 : t 0 (77 * i + 5) = aF w i 5 := h.fld c (by decide)
        by_cases c2 : aF w i 5 = nI 1
        · refine ok_obE (x4_liveT hlt (e5.trans c2)) ?_
          refine ok_iff (by decide) ?_
          have hcap : (aL w i 1).length ≤ 12 := h.cap c 1 (by decide)
          refine ok_obE (x4_atE (f := 13) rfl (by omega) (h.len c 1 (by decide))) ?_
          by_cases c3 : aL w i 1 = []
          · refine ok_iff (by rw [c3]; decide) ?_
            rw [if_neg (fun q => q.2.2 c3)]
            exact go
          · refine ok_ift ((nI_lt0 (by omega)).mpr (List.length_pos_iff.mpr c3)) ?_
            rw [if_pos ⟨c, c2, c3⟩]
            exact ok_some ⟨rfl, rfl⟩
        · refine ok_obE (x4_liveF hlt (by rw [e5]; exact c2)) ?_
          refine ok_ift rfl ?_
          rw [if_neg (fun q => c2 q.2.1)]
          exact go
      · refine ok_iff (nI_nlt (by omega) (by omega)) ?_
        rw [if_neg (fun q => c q.1)]
        exact go
    obtain ⟨r, t', e, rfl, rfl⟩ := key
    exact e
theorem x4_next (h : Rt (t 0) w) (hI : aI w tm) : fX4_nextActor t = some (oN (aNext w), t) := by
  obtain ⟨L, hL, eL, ef⟩ := hI.from
  unfold fX4_nextActor aNext
  rw [ef]
  exact x4_nx h hL eL 12 0 FU (by unfold FU; omega) (by omega)
theorem oN_neg {x : Option Nat} (h : ∀ a, x = some a → a < 12) : (oN x < 0 ↔ x = none) := by
  cases x with
  | none => exact ⟨fun _ => rfl, fun _ => by decide⟩
  | some a =>
    have := h a rfl
    exact ⟨fun q => absurd q (by show ¬ nI a < nI 0; exact nI_nlt (Nat.zero_le _) (by omega)), fun q => by cases q⟩
theorem x4_has (h : Rt (t 0) w) (hI : aI w tm) : fX4_hasStep t = some (if aNext w = none ∧ aT w = [] then nI 0 else nI 1, t) := by
  have key : Ok (fX4_hasStep t) (fun r t' => r = (if aNext w = none ∧ aT w = [] then nI 0 else nI 1) ∧ t' = t) := by
    unfold fX4_hasStep
    refine ok_obE (x4_next h hI) ?_
    refine ok_jn ?_
    have hc : (aT w).length ≤ 10 := h.2.2.2.1.2.1
    by_cases c : aNext w = none
    · refine ok_ift ((oN_neg (fun a e => (aNextN_some _ _ e).1)).mpr c) ?_
      refine ok_rv (x4_trd (by decide) h.2.2.2.1.1) ?_
      by_cases c2 : aT w = []
      · refine ok_iff (by rw [c2]; decide) ?_
        rw [if_pos ⟨c, c2⟩]
        exact ok_some ⟨rfl, rfl⟩
      · refine ok_ift ((nI_lt0 (by omega)).mpr (List.length_pos_iff.mpr c2)) ?_
        rw [if_neg (fun q => c2 q.2)]
        exact ok_some ⟨rfl, rfl⟩
    · refine ok_iff (fun q => c ((oN_neg (fun a e => (aNextN_some _ _ e).1)).mp q)) ?_
      rw [if_neg (fun q => c q.1)]
      exact ok_some ⟨rfl, rfl⟩
  obtain ⟨r, t', e, rfl, rfl⟩ := key
  exact e
theorem x4_ft (h : Rt (t 0) w) : ∀ (S P : List (Int32 × Int32 × Int32)) (fuel : Nat), S.length < fuel → aT w = P ++ S → fX4_firstTimer_L5 (fun v t11 => some (v, t11)) fuel (if P = [] then (-2 : Int32) else nI (aMin P)) (nI P.length) t = some (if aT w = [] then (-2 : Int32) else nI (aMin (aT w)), t) := by
  have hc : (aT w).length ≤ 10 := h.2.2.2.1.2.1
  intro S
  induction S with
  | nil =>
    intro P fuel hf e
    rw [List.append_nil] at e
    obtain ⟨fuel, rfl⟩ : ∃ n, fuel = n + 1 := ⟨fuel - 1, by omega⟩
    rw [fX4_firstTimer_L5, x4_trd (by decide) h.2.2.2.1.1]
    show (if _ then _ else _) = _
    rw [if_neg (by rw [e]; exact nI_nlt (Nat.le_refl _) (by rw [← e]; omega)), e]
  | cons x S ih =>
    intro P fuel hf e
    rw [List.length_cons] at hf
    obtain ⟨fuel, rfl⟩ : ∃ n, fuel = n + 1 := ⟨fuel - 1, by omega⟩
    have hl : P.length < (aT w).length := by rw [e, List.length_append, List.length_cons]; omega
    have hx : (aT w)[P.length]? = some x := by rw [e, List.getElem?_append_right (Nat.le_refl _), Nat.sub_self]; rfl
    have step := ih (P ++ [x]) fuel (by omega) (by rw [e, List.append_assoc]; rfl)
    rw [if_neg (by simp), List.length_append] at step
    have step : fX4_firstTimer_L5 (fun v t11 => some (v, t11)) fuel (nI (aMin (P ++ [x]))) (nI (P.length + 1)) t = some (if aT w = [] then (-2 : Int32) else nI (aMin (aT w)), t) := step
    have key : Ok (fX4_firstTimer_L5 (fun v t11 => some (v, t11)) (fuel + 1) (if P = [] then (-2 : Int32) else nI (aMin P)) (nI P.length) t) (fun r t' => r = (if aT w = [] then (-2 : Int32) else nI (aMin (aT w))) ∧ t' = t) := by
      have go : ∀ v, v = nI (aMin (P ++ [x])) → Ok (letv (nI P.length + nI 1) (fun y5 => fX4_firstTimer_L5 (fun v t11 => some (v, t11)) fuel v y5 t)) (fun r t' => r = (if aT w = [] then (-2 : Int32) else nI (aMin (aT w))) ∧ t' = t) := by
        intro v ev
        refine ok_letv ?_
        rw [nI_add, ev, step]
        exact ok_some ⟨rfl, rfl⟩
      rw [fX4_firstTimer_L5]
      refine ok_rv (x4_trd (by decide) h.2.2.2.1.1) ?_
      refine ok_ift (nI_lt hl (by omega)) ?_
      refine ok_jn ?_
      refine ok_jn ?_
      by_cases c : P = []
      · rw [if_pos c]
        refine ok_ift (by decide) ?_
        exact go _ (by rw [c]; rfl)
      · rw [if_neg c]
        have hm : aMin P < P.length := aMin_lt c
        refine ok_iff (by show ¬ nI (aMin P) < nI 0; exact nI_nlt (Nat.zero_le _) (by omega)) ?_
        obtain ⟨z, hz⟩ : ∃ z, P[aMin P]? = some z := ⟨P[aMin P], List.getElem?_eq_getElem hm⟩
        have hz2 : (aT w)[aMin P]? = some z := by rw [e, List.getElem?_append_left hm]; exact hz
        have q1 := (h.2.2.2.1.2.2 _ _ hx).2.1
        have q2 := (h.2.2.2.1.2.2 _ _ hz2).2.1
        rw [nI_mul, nI_mul, nI_add, nI_add, nI_add, nI_add]
        refine ok_rv (x4_trd (x := x.2.1) (by omega) (by rw [← q1]; congr 1; omega)) ?_
        refine ok_rv (x4_trd (x := z.2.1) (by omega) (by rw [← q2]; congr 1; omega)) ?_
        by_cases c2 : x.2.1 < z.2.1
        · refine ok_ift c2 ?_
          exact go _ (by rw [aMin_push c hz, if_pos c2])
        · refine ok_iff c2 ?_
          exact go _ (by rw [aMin_push c hz, if_neg c2])
    obtain ⟨r, t', e, rfl, rfl⟩ := key
    exact e
theorem x4_first (h : Rt (t 0) w) : fX4_firstTimer t = some (if aT w = [] then (-2 : Int32) else nI (aMin (aT w)), t) := by
  have hc : (aT w).length ≤ 10 := h.2.2.2.1.2.1
  exact x4_ft h (aT w) [] FU (by unfold FU; omega) rfl
theorem x4_code (n : Int32) : fX4_toldAs n t = some (aCode n, t) := by
  unfold fX4_toldAs aCode
  split <;> rfl
theorem x4_lg15 {v1 v2 : Int32} {kx : tSt → Option (Unit × tSt)} {Q : Unit → tSt → Prop} {g0 : Nat → Int32} : ∀ (n i fuel : Nat) (t : tSt), n < fuel → i + n = 30 → 1 ≤ i → (∀ j, t 0 j = if 963 ≤ j ∧ j < 962 + i then g0 (j + 1) else g0 j) →
    (∀ t' : tSt, tK t t' → (∀ j, t' 0 j = if 963 ≤ j ∧ j < 992 then g0 (j + 1) else g0 j) → Ok (kx t') Q) → Ok (fX4_logs_L15 v1 v2 kx fuel (nI i) t) Q := by
  intro n
  induction n with
  | zero =>
    intro i fuel t hf hi h1 e k
    obtain ⟨fuel, rfl⟩ : ∃ n, fuel = n + 1 := ⟨fuel - 1, by omega⟩
    have : i = 30 := by omega
    subst this
    rw [fX4_logs_L15]
    refine ok_iff (by decide) ?_
    exact k t (tK.rf t) e
  | succ n ih =>
    intro i fuel t hf hi h1 e k
    obtain ⟨fuel, rfl⟩ : ∃ n, fuel = n + 1 := ⟨fuel - 1, by omega⟩
    rw [fX4_logs_L15]
    refine ok_ift (nI_lt (by omega) (by omega)) ?_
    rw [nI_add]
    refine ok_rv (trd_n (by show _ < 1018; omega)) ?_
    rw [nI_sub (by omega)]
    refine ok_rv (twr_n (by show _ < 1018; omega)) ?_
    refine ok_letv ?_
    rw [nI_add]
    refine ih (i + 1) fuel _ (by omega) (by omega) (by omega) (fun j => ?_) (fun t' k1 f1 => k t' (tK.trans tK_tup k1) f1)
    rw [tup_0]
    by_cases c : j = 963 + i - 1
    · rw [if_pos c, if_pos (by omega), e, if_neg (by omega)]
      congr 1
      omega
    · rw [if_neg c, e]
      by_cases c2 : 963 ≤ j ∧ j < 962 + i
      · rw [if_pos c2, if_pos (by omega)]
      · rw [if_neg c2, if_neg (by omega)]
theorem x4_logs {n : Int32} (h : Rt (t 0) w) : Ok (fX4_logs (nI a) n t) (fun _ t' => Rt (t' 0) (aLogged w (aWord a n)) ∧ (∀ k, k ≠ 0 → k ≠ 18 → t' k = t k) ∧ (∀ j, j ≠ 7 → t' 18 j = t 18 j) ∧ t' 18 7 = aWord a n) := by
  have hN := h.n12
  have e1 : t 0 962 = nI (aO w).length := h.2.2.2.2.1.1
  have hc : (aO w).length ≤ 30 := h.2.2.2.2.1.2.1
  -- what is left, with l the words kept
  have fin : ∀ (l : List Int32) (t1 : tSt), tK t t1 → l.length < 30 → t1 0 962 = nI l.length → (∀ i x, l[i]? = some x → t1 0 (963 + i) = x) → (∀ j, (j < 962 ∨ 993 ≤ j) → t1 0 j = t 0 j) → Ok (ob (fX4_toldAs n t1) (fun r4 t5 => letv (tup t5 18 7 (((nI 1000 * nI a) + r4) + nI 300)) (fun t6 => rv (trd t6 0 (nI 962)) (fun x7 => rv (twr t6 0 (nI 963 + x7) (t6 18 7)) (fun t8 => rv (trd t8 0 (nI 962)) (fun x9 => rv (twr t8 0 (nI 962) (x9 + nI 1)) (fun t10 => some ((), t10)))))))) (fun _ t' => Rt (t' 0) (uO w (l ++ [aWord a n])) ∧ (∀ k, k ≠ 0 → k ≠ 18 → t' k = t k) ∧ (∀ j, j ≠ 7 → t' 18 j = t 18 j) ∧ t' 18 7 = aWord a n) := by
    intro l t1 k1 hl el hx f1
    refine ok_obE (x4_code n) ?_
    refine ok_letv ?_
    have e0 : tup t1 18 7 (nI 1000 * nI a + aCode n + nI 300) 0 = t1 0 := tup_z (by decide)
    refine ok_rv (x4_trd (x := nI l.length) (by decide) (by rw [e0]; exact el)) ?_
    rw [nI_add]
    refine ok_rv (twr_n (by show _ < 1018; omega)) ?_
    refine ok_rv (x4_trd (x := nI l.length) (by decide) (by rw [tup_0, if_neg (by omega), e0]; exact el)) ?_
    refine ok_rv (twr_n (by show _ < 1018; omega)) ?_
    refine ok_some ⟨?_, fun k h1 h2 => ?_, fun j hj => ?_, ?_⟩
    · refine h.setO (fun j hj => by rw [tup_0, if_neg (by omega), tup_0, if_neg (by omega), e0, f1 j hj]) ⟨?_, ?_, fun i x hi => ?_⟩
      · rw [tup_0, if_pos rfl, nI_add, List.length_append]; rfl
      · rw [List.length_append]; exact hl
      · rw [tup_0, if_neg (by omega), tup_0, e0]
        have hlt := (List.getElem?_eq_some_iff.mp hi).1
        rw [List.length_append] at hlt
        have hlt : i < l.length + 1 := hlt
        by_cases ci : i < l.length
        · rw [List.getElem?_append_left ci] at hi
          rw [if_neg (by omega)]
          exact hx i x hi
        · have ei : i = l.length := by omega
          subst ei
          rw [List.getElem?_append_right (Nat.le_refl _), Nat.sub_self] at hi
          cases hi
          rw [if_pos (by omega), tup_k, if_pos rfl]
          rfl
    · rw [tup_ne h1, tup_ne h1, tup_ne h2, k1 k h1]
    · rw [tup_ne (by decide), tup_ne (by decide), tup_k, if_neg hj, k1 18 (by decide)]
    · rw [tup_ne (by decide), tup_ne (by decide), tup_k, if_pos rfl]
      rfl
  unfold fX4_logs aLogged
  refine ok_rv (x4_trd (by decide) e1) ?_
  refine ok_jn ?_
  by_cases c : (aO w).length = 30
  · refine ok_ift (by rw [c]) ?_
    rw [if_pos c]
    refine x4_lg15 (g0 := t 0) 29 1 FU t (by unfold FU; omega) (by omega) (by omega) (fun j => by rw [if_neg (by omega)]) (fun t1 k1 f1 => ?_)
    refine ok_rv (x4_trd (x := nI 30) (by decide) (by rw [f1, if_neg (by omega), e1, c])) ?_
    refine ok_rv (twr_n (by show _ < 1018; omega)) ?_
    refine fin ((aO w).drop 1) _ (tK.trans k1 tK_tup) (by rw [List.length_drop]; omega) ?_ (fun i x hx => ?_) (fun j hj => by rw [tup_0, if_neg (by omega), f1, if_neg (by omega)])
    · rw [tup_0, if_pos rfl, List.length_drop, c]; rfl
    · have hlt := (List.getElem?_eq_some_iff.mp hx).1
      rw [List.length_drop] at hlt
      rw [List.getElem?_drop] at hx
      rw [tup_0, if_neg (by omega), f1, if_pos (by omega)]
      have := h.2.2.2.2.1.2.2 (1 + i) x hx
      rw [← this]
      congr 1
      omega
  · refine ok_iff (nI_ne c (by omega) (by omega)) ?_
    rw [if_neg c]
    exact fin (aO w) t (tK.rf t) (by omega) e1 h.2.2.2.2.1.2.2 (fun _ _ => rfl)
end X4G
