/-! the twin's small functions, over the world -/
theorem nI_m1 (x : Int32) : x + (-1 : Int32) = x - nI 1 := (Int32.sub_eq_add_neg x 1).symm
theorem nI_ne {a b : Nat} (h : a ≠ b) (ha : a < 2 ^ 31) (hb : b < 2 ^ 31) : ¬ nI a = nI b := fun q => h ((nI_eq ha hb).mp q)
theorem nI_z {a : Nat} (ha : a < 2 ^ 31) : nI a = 0 ↔ a = 0 := by
  rw [← nI_0]
  exact nI_eq ha (by decide)
theorem nI_lt0 {a : Nat} (ha : a < 2 ^ 31) : 0 < nI a ↔ 0 < a := by
  rw [← nI_0]
  exact nI_ltI (by decide) ha
section X4A
variable {t : tSt} {w : aW} {a f : Nat} {x y : Int32} {α : Type}
theorem x4_at (hy : y = nI f) (h : 77 * a + f < 1018) : fX4_at (nI a) y t = some (t 0 (77 * a + f), t) := by
  unfold fX4_at
  rw [hy, nI_mul, nI_add, show a * 77 + f = 77 * a + f from by omega, trd_n (by exact h)]
  rfl
theorem x4_atE (hy : y = nI f) (h : 77 * a + f < 1018) (e : t 0 (77 * a + f) = x) : fX4_at (nI a) y t = some (x, t) := by rw [x4_at hy h, e]
theorem x4_sets (hy : y = nI f) (h : 77 * a + f < 1018) : fX4_sets (nI a) y x t = some ((), tup t 0 (77 * a + f) x) := by
  unfold fX4_sets
  rw [hy, nI_mul, nI_add, show a * 77 + f = 77 * a + f from by omega, twr_n (by exact h)]
  rfl
theorem x4_liveT (h : a < 12) (e : t 0 (77 * a + 5) = nI 1) : fX4_isLive (nI a) t = some (nI 1, t) := by
  unfold fX4_isLive
  rw [x4_atE (f := 5) rfl (by omega) e, ob_some, if_pos rfl]
theorem x4_liveF (h : a < 12) (e : ¬ t 0 (77 * a + 5) = nI 1) : fX4_isLive (nI a) t = some (nI 0, t) := by
  unfold fX4_isLive
  rw [x4_at (f := 5) rfl (by omega), ob_some, if_neg e]
/-- is it a live child? -/
theorem x4_childT {p : Int32} (h : a < 12) (e0 : t 0 (77 * a + 0) = p) (e : t 0 (77 * a + 5) = nI 1) : fX4_isLiveChild (nI a) p t = some (nI 1, t) := by
  unfold fX4_isLiveChild
  rw [x4_atE (f := 0) rfl (by omega) e0, ob_some, if_pos rfl, x4_liveT h e, ob_some, if_neg (by decide)]
theorem x4_childF {p : Int32} (h : a < 12) (e : ¬ (t 0 (77 * a + 0) = p ∧ t 0 (77 * a + 5) = nI 1)) : fX4_isLiveChild (nI a) p t = some (nI 0, t) := by
  unfold fX4_isLiveChild
  rw [x4_at (f := 0) rfl (by omega), ob_some]
  by_cases e0 : t 0 (77 * a + 0) = p
  · rw [if_pos e0, x4_liveF h (fun q => e ⟨e0, q⟩), ob_some, if_pos (by decide)]
  · rw [if_neg e0]
theorem x4_trd {i : Nat} (h : i < 1018) (e : t 0 i = x) : trd t 0 (nI i) = some x := by rw [trd_n (by exact h), e]
def zb (b : Bool) : Int32 := if b then nI 1 else nI 0
theorem sRow_push {g g' : Nat → Int32} {b k : Nat} {xs : List (Int32 × Int32)} {p : Int32 × Int32} (h : sRow g b (rS k) (rC k) xs) (hl : xs.length < rC k) (e0 : g' b = nI (xs.length + 1)) (e1 : g' (b + 1 + rS k * xs.length) = p.1) (e2 : rS k = 2 → g' (b + 2 + rS k * xs.length) = p.2)
    (e : ∀ i, b < i → i < b + 1 + rS k * xs.length → g' i = g i) : sRow g' b (rS k) (rC k) (xs ++ [p]) := by
  obtain ⟨h1, h2, h3⟩ := h
  have hS : rS k = 1 ∨ rS k = 2 := by
    unfold rS
    split <;> simp
  refine ⟨by rw [e0, List.length_append]; rfl, by rw [List.length_append]; exact hl, fun i q hq => ?_⟩
  by_cases hi : i < xs.length
  · rw [List.getElem?_append_left hi] at hq
    obtain ⟨h4, h5⟩ := h3 i q hq
    rcases hS with hS | hS
    · rw [hS] at e h4 ⊢
      exact ⟨by rw [e _ (by omega) (by omega)]; exact h4, fun z => by omega⟩
    · rw [hS] at e h4 h5 ⊢
      exact ⟨by rw [e _ (by omega) (by omega)]; exact h4, fun z => by rw [e _ (by omega) (by omega)]; exact h5 rfl⟩
  · have hi2 : i = xs.length := by
      have := (List.getElem?_eq_some_iff.mp hq).1
      rw [List.length_append] at this
      simp only [List.length_cons, List.length_nil] at this
      omega
    subst hi2
    rw [List.getElem?_append_right (Nat.le_refl _), Nat.sub_self] at hq
    cases hq
    exact ⟨e1, e2⟩
/-- the watchers' places stay -/
def tW (t t' : tSt) : Prop := ∀ b i, b < 12 → 77 * b + 51 ≤ i → i < 77 * b + 64 → t' 0 i = t 0 i
theorem x4_sends {v n : Int32} (h : Rt (t 0) w) (ha : a < aN w) : Ok (fX4_sends (nI a) v n t) (fun r t' => r = zb (aSends w a (v, n)).1 ∧ Rt (t' 0) (aSends w a (v, n)).2 ∧ tK t t' ∧ tW t t') := by
  have hN := h.n12
  have e1 : t 0 (77 * a + 13) = nI (aL w a 1).length := h.len ha 1 (by decide)
  have e5 : t 0 (77 * a + 5) = aF w a 5 := h.fld ha (by decide)
  have e2 : t 0 927 = aG w 2 := h.glo 2 (by decide)
  have hc : (aL w a 1).length ≤ 12 := h.cap ha 1 (by decide)
  have dead : Ok (rv (trd t 0 (nI 927)) (fun x7 => rv (twr t 0 (nI 927) (x7 + (nI 1))) (fun t8 => some ((nI 0), t8)))) (fun r t' => r = nI 0 ∧ Rt (t' 0) (uG w 2 (aG w 2 + nI 1)) ∧ tK t t' ∧ tW t t') := by
    refine ok_rv (x4_trd (by decide) e2) ?_
    refine ok_rv (twr_n (by decide)) ?_
    exact ok_some ⟨rfl, h.setG (by decide) (fun j => tup_0 t _ _ j), tK_tup, fun b i i1 i2 i3 => by rw [tup_0, if_neg (by omega)]⟩
  unfold fX4_sends
  refine ok_obE (x4_atE (f := 13) rfl (by omega) e1) ?_
  unfold aSends
  by_cases hl : aF w a 5 = nI 1
  · refine ok_obE (x4_liveT (by omega) (e5.trans hl)) ?_
    refine ok_jn ?_
    refine ok_iff (by decide) ?_
    by_cases hm : (aL w a 1).length = 12
    · refine ok_ift (by rw [hm]) ?_
      rw [if_neg (by omega)]
      exact dead
    · refine ok_iff (nI_ne hm (by omega) (by omega)) ?_
      rw [if_pos ⟨hl, by omega⟩]
      refine ok_obE (x4_sets (f := 14 + 2 * (aL w a 1).length) (by rw [nI_mul, nI_add]) (by omega)) ?_
      refine ok_obE (x4_sets (f := 14 + 2 * (aL w a 1).length + 1) (by rw [nI_mul, nI_add, nI_add]) (by omega)) ?_
      refine ok_obE (x4_sets (f := 13) rfl (by omega)) ?_
      refine ok_some ⟨rfl, ?_, tK.trans (tK.trans tK_tup tK_tup) tK_tup, fun b i i1 i2 i3 => by rw [tup_0, tup_0, tup_0, if_neg (by omega), if_neg (by rcases Nat.lt_trichotomy a b with q | q | q <;> omega), if_neg (by rcases Nat.lt_trichotomy a b with q | q | q <;> omega)]⟩
      refine h.setL ha (by decide) (fun i hi => ?_) (sRow_push (h.row ha 1 (by decide)) (by show (aL w a 1).length < 12; omega) ?_ ?_ (fun _ => ?_) (fun i i1 i2 => ?_))
      · have hi : i < 77 * a + 13 ∨ 77 * a + 13 + 25 ≤ i := hi
        rw [tup_0, tup_0, tup_0, if_neg (by omega), if_neg (by omega), if_neg (by omega)]
      · show tup (tup (tup t 0 _ v) 0 _ n) 0 (77 * a + 13) (nI _ + nI 1) 0 (77 * a + 13) = _
        rw [tup_0, if_pos rfl, nI_add]
      · show tup (tup (tup t 0 (77 * a + (14 + 2 * (aL w a 1).length)) v) 0 (77 * a + (14 + 2 * (aL w a 1).length + 1)) n) 0 (77 * a + 13) _ 0 (77 * a + 13 + 1 + 2 * (aL w a 1).length) = v
        rw [tup_0, tup_0, tup_0, if_neg (by omega), if_neg (by omega), if_pos (by omega)]
      · show tup (tup (tup t 0 (77 * a + (14 + 2 * (aL w a 1).length)) v) 0 (77 * a + (14 + 2 * (aL w a 1).length + 1)) n) 0 (77 * a + 13) _ 0 (77 * a + 13 + 2 + 2 * (aL w a 1).length) = n
        rw [tup_0, tup_0, if_neg (by omega), if_pos (by omega)]
      · have i1 : 77 * a + 13 < i := i1
        have i2 : i < 77 * a + 13 + 1 + 2 * (aL w a 1).length := i2
        rw [tup_0, tup_0, tup_0, if_neg (by omega), if_neg (by omega), if_neg (by omega)]
  · refine ok_obE (x4_liveF (by omega) (by rw [e5]; exact hl)) ?_
    refine ok_jn ?_
    refine ok_ift rfl ?_
    rw [if_neg (fun q => hl q.1)]
    exact dead
end X4A
/-! the stash comes back -/
theorem x4_cb41 {a b : Nat} {r1 r3 : Int32} {kx : tSt → Option (Unit × tSt)} {Q : Unit → tSt → Prop} (hb : a < 12) : ∀ (j fuel : Nat) (t : tSt), j < fuel → 2 * b + j ≤ 24 →
    (∀ t' : tSt, tK t t' → (∀ i, t' 0 i = if 77 * a + 14 + 2 * b ≤ i ∧ i < 77 * a + 14 + 2 * b + j then t 0 (i - 2 * b) else t 0 i) → Ok (kx t') Q) → Ok (fX4_comesBack_L41 (nI a) r1 r3 (nI b) kx fuel (nI j - nI 1) t) Q := by
  intro j
  induction j with
  | zero =>
    intro fuel t hf hc k
    obtain ⟨fuel, rfl⟩ : ∃ n, fuel = n + 1 := ⟨fuel - 1, by omega⟩
    rw [fX4_comesBack_L41]
    refine ok_ift (by decide) ?_
    exact k t (tK.rf t) (fun i => by rw [if_neg (by omega)])
  | succ j ih =>
    intro fuel t hf hc k
    obtain ⟨fuel, rfl⟩ : ∃ n, fuel = n + 1 := ⟨fuel - 1, by omega⟩
    rw [fX4_comesBack_L41, nI_sub (by omega), Nat.add_sub_cancel]
    refine ok_iff (nI_pos (by omega)) ?_
    refine ok_obE (x4_at (f := 14 + j) (by rw [nI_add]) (by omega)) ?_
    refine ok_obE (x4_sets (f := 14 + 2 * b + j) (by rw [nI_mul, nI_add, nI_add]) (by omega)) ?_
    refine ok_letv ?_
    rw [nI_m1]
    refine ih fuel _ (by omega) (by omega) (fun t' h1 h2 => k t' (tK.trans tK_tup h1) (fun i => ?_))
    rw [h2]
    by_cases c : 77 * a + 14 + 2 * b ≤ i ∧ i < 77 * a + 14 + 2 * b + j
    · rw [if_pos c, if_pos (by omega), tup_0, if_neg (by omega)]
    · rw [if_neg c, tup_0]
      by_cases c2 : i = 77 * a + (14 + 2 * b + j)
      · rw [if_pos c2, if_pos (by omega)]
        congr 1
        omega
      · rw [if_neg c2, if_neg (by omega)]
theorem x4_cb80 {a b : Nat} {r1 r3 : Int32} {kx : tSt → Option (Unit × tSt)} {Q : Unit → tSt → Prop} (hb : a < 12) : ∀ (n j fuel : Nat) (t : tSt), n < fuel → j + n = 2 * b → b ≤ 6 →
    (∀ t' : tSt, tK t t' → (∀ i, t' 0 i = if 77 * a + 14 + j ≤ i ∧ i < 77 * a + 14 + 2 * b then t 0 (i + 25) else t 0 i) → Ok (kx t') Q) → Ok (fX4_comesBack_L80 (nI a) r1 r3 (nI b) kx fuel (nI j) t) Q := by
  intro n
  induction n with
  | zero =>
    intro j fuel t hf hc hb6 k
    obtain ⟨fuel, rfl⟩ : ∃ n, fuel = n + 1 := ⟨fuel - 1, by omega⟩
    rw [fX4_comesBack_L80]
    refine ok_iff (by rw [nI_mul]; exact nI_nlt (by omega) (by omega)) ?_
    exact k t (tK.rf t) (fun i => by rw [if_neg (by omega)])
  | succ n ih =>
    intro j fuel t hf hc hb6 k
    obtain ⟨fuel, rfl⟩ : ∃ n, fuel = n + 1 := ⟨fuel - 1, by omega⟩
    rw [fX4_comesBack_L80]
    refine ok_ift (by rw [nI_mul]; exact nI_lt (by omega) (by omega)) ?_
    refine ok_obE (x4_at (f := 39 + j) (by rw [nI_add]) (by omega)) ?_
    refine ok_obE (x4_sets (f := 14 + j) (by rw [nI_add]) (by omega)) ?_
    refine ok_letv ?_
    rw [nI_add]
    refine ih (j + 1) fuel _ (by omega) (by omega) hb6 (fun t' h1 h2 => k t' (tK.trans tK_tup h1) (fun i => ?_))
    rw [h2]
    by_cases c : 77 * a + 14 + (j + 1) ≤ i ∧ i < 77 * a + 14 + 2 * b
    · rw [if_pos c, if_pos (by omega), tup_0, if_neg (by omega)]
    · rw [if_neg c, tup_0]
      by_cases c2 : i = 77 * a + (14 + j)
      · rw [if_pos c2, if_pos (by omega)]
        congr 1
        omega
      · rw [if_neg c2, if_neg (by omega)]
theorem x4_comesBack {t : tSt} {w : aW} {a : Nat} (h : Rt (t 0) w) (ha : a < aN w) : Ok (fX4_comesBack (nI a) t) (fun _ t' => Rt (t' 0) (aBack w a) ∧ tK t t') := by
  have hN := h.n12
  have e1 : t 0 (77 * a + 13) = nI (aL w a 1).length := h.len ha 1 (by decide)
  have e2 : t 0 (77 * a + 38) = nI (aL w a 2).length := h.len ha 2 (by decide)
  have c1 : (aL w a 1).length ≤ 12 := h.cap ha 1 (by decide)
  have c2 : (aL w a 2).length ≤ 6 := h.cap ha 2 (by decide)
  unfold fX4_comesBack
  refine ok_obE (x4_atE (f := 13) rfl (by omega) e1) ?_
  refine ok_obE (x4_atE (f := 38) rfl (by omega) e2) ?_
  refine ok_jn ?_
  have key : Ok (letv ((((nI 2) * (nI (aL w a 1).length)) - (nI 1))) (fun y8 => fX4_comesBack_L41 (nI a) (nI (aL w a 1).length) (nI (aL w a 2).length) (nI (aRoom w a)) (fun (t14 : tSt) => fX4_comesBack_L80 (nI a) (nI (aL w a 1).length) (nI (aL w a 2).length) (nI (aRoom w a)) (fun (t20 : tSt) => ob (fX4_sets (nI a) (nI 13) ((nI (aL w a 1).length) + (nI (aRoom w a))) t20) (fun r21 t22 => ob (fX4_sets (nI a) (nI 38) (nI 0) t22) (fun r23 t24 => rv (trd t24 0 (nI 927)) (fun x25 => rv (twr t24 0 (nI 927) (x25 + ((nI (aL w a 2).length) - (nI (aRoom w a))))) (fun t26 => some ((), t26)))))) FU (nI 0) t14) FU y8 t)) (fun _ t' => Rt (t' 0) (aBack w a) ∧ tK t t') := by
    have hr : aRoom w a ≤ (aL w a 2).length ∧ aRoom w a + (aL w a 1).length ≤ 12 := by
      unfold aRoom
      omega
    refine ok_letv ?_
    rw [nI_mul]
    refine x4_cb41 (by omega) (2 * (aL w a 1).length) FU t (by unfold FU; omega) (by omega) (fun t1 k1 f1 => ?_)
    refine x4_cb80 (by omega) (2 * aRoom w a) 0 FU t1 (by unfold FU; omega) (by omega) (by omega) (fun t2 k2 f2 => ?_)
    refine ok_obE (x4_sets (f := 13) rfl (by omega)) ?_
    refine ok_obE (x4_sets (f := 38) rfl (by omega)) ?_
    have e9 : t2 0 927 = aG w 2 := by
      rw [f2, if_neg (by omega), f1, if_neg (by omega)]
      exact h.glo 2 (by decide)
    refine ok_rv (x4_trd (x := aG w 2) (by decide) (by rw [tup_0, tup_0, if_neg (by omega), if_neg (by omega)]; exact e9)) ?_
    refine ok_rv (twr_n (by decide)) ?_
    refine ok_some ⟨?_, tK.trans k1 (tK.trans k2 (tK.trans tK_tup (tK.trans tK_tup tK_tup)))⟩
    unfold aBack
    have s1 : Rt (fun i => if i = 77 * a + 38 then t 0 i else if i = 77 * a + 13 then nI ((aL w a 1).length + aRoom w a) else t2 0 i) (uL w a 1 ((aL w a 2).take (aRoom w a) ++ aL w a 1)) := by
      refine h.setL ha (k := 1) (by decide) (fun i hi => ?_) ⟨?_, ?_, fun i p hp => ?_⟩
      · have hi : i < 77 * a + 13 ∨ 77 * a + 13 + 25 ≤ i := hi
        show (if _ then _ else _) = _
        by_cases c : i = 77 * a + 38
        · rw [if_pos c]
        · rw [if_neg c, if_neg (by omega), f2, if_neg (by omega), f1, if_neg (by omega)]
      · show (if 77 * a + 13 = 77 * a + 38 then _ else if 77 * a + 13 = 77 * a + 13 then _ else _) = _
        rw [if_neg (by omega), if_pos rfl, List.length_append, List.length_take, Nat.min_eq_left hr.1, Nat.add_comm]
      · rw [List.length_append, List.length_take, Nat.min_eq_left hr.1]
        exact hr.2
      · have hlt : i < aRoom w a + (aL w a 1).length := by
          have := (List.getElem?_eq_some_iff.mp hp).1
          rw [List.length_append, List.length_take, Nat.min_eq_left hr.1] at this
          exact this
        show (if 77 * a + 13 + 1 + 2 * i = 77 * a + 38 then _ else if 77 * a + 13 + 1 + 2 * i = 77 * a + 13 then _ else t2 0 (77 * a + 13 + 1 + 2 * i)) = p.1 ∧ (2 = 2 → (if 77 * a + 13 + 2 + 2 * i = 77 * a + 38 then _ else if 77 * a + 13 + 2 + 2 * i = 77 * a + 13 then _ else t2 0 (77 * a + 13 + 2 + 2 * i)) = p.2)
        rw [if_neg (by omega), if_neg (by omega), if_neg (by omega), if_neg (by omega), f2, f2]
        by_cases c : i < aRoom w a
        · rw [List.getElem?_append_left (by rw [List.length_take, Nat.min_eq_left hr.1]; exact c), List.getElem?_take, if_pos c] at hp
          obtain ⟨p1, p2⟩ := (h.row ha 2 (by decide)).2.2 i p hp
          have p1 : t 0 (77 * a + 38 + 1 + 2 * i) = p.1 := p1
          have p2 : t 0 (77 * a + 38 + 2 + 2 * i) = p.2 := p2 rfl
          rw [if_pos (by omega), if_pos (by omega), f1, f1, if_neg (by omega), if_neg (by omega), show 77 * a + 13 + 1 + 2 * i + 25 = 77 * a + 38 + 1 + 2 * i from by omega, show 77 * a + 13 + 2 + 2 * i + 25 = 77 * a + 38 + 2 + 2 * i from by omega]
          exact ⟨p1, fun _ => p2⟩
        · rw [List.getElem?_append_right (by rw [List.length_take, Nat.min_eq_left hr.1]; omega), List.length_take, Nat.min_eq_left hr.1] at hp
          obtain ⟨p1, p2⟩ := (h.row ha 1 (by decide)).2.2 _ p hp
          have p1 : t 0 (77 * a + 13 + 1 + 2 * (i - aRoom w a)) = p.1 := p1
          have p2 : t 0 (77 * a + 13 + 2 + 2 * (i - aRoom w a)) = p.2 := p2 rfl
          rw [if_neg (by omega), if_neg (by omega), f1, f1, if_pos (by omega), if_pos (by omega), show 77 * a + 13 + 1 + 2 * i - 2 * aRoom w a = 77 * a + 13 + 1 + 2 * (i - aRoom w a) from by omega, show 77 * a + 13 + 2 + 2 * i - 2 * aRoom w a = 77 * a + 13 + 2 + 2 * (i - aRoom w a) from by omega]
          exact ⟨p1, fun _ => p2⟩
    have s2 : Rt (fun i => if i = 77 * a + 38 then nI 0 else if i = 77 * a + 13 then nI ((aL w a 1).length + aRoom w a) else t2 0 i) (uL (uL w a 1 ((aL w a 2).take (aRoom w a) ++ aL w a 1)) a 2 []) := by
      refine s1.setL ha (k := 2) (by decide) (fun i hi => ?_) ⟨?_, Nat.zero_le _, fun i p hp => by cases hp⟩
      · have hi : i < 77 * a + 38 ∨ 77 * a + 38 + 13 ≤ i := hi
        show (if i = 77 * a + 38 then _ else _) = (if i = 77 * a + 38 then _ else _)
        rw [if_neg (show ¬ i = 77 * a + 38 from by omega), if_neg (show ¬ i = 77 * a + 38 from by omega)]
      · show (if 77 * a + 38 = 77 * a + 38 then _ else _) = _
        rw [if_pos rfl]; rfl
    refine s2.setG (by decide) (fun j => ?_)
    rw [tup_0, tup_0, tup_0, nI_add]
  by_cases c : (aL w a 2).length < 12 - (aL w a 1).length
  · refine ok_ift (by rw [nI_sub c1]; exact nI_lt c (by omega)) ?_
    have er : aRoom w a = (aL w a 2).length := by
      unfold aRoom
      omega
    rw [er] at key
    exact key
  · refine ok_iff (by rw [nI_sub c1]; exact nI_nlt (by omega) (by omega)) ?_
    have er : aRoom w a = 12 - (aL w a 1).length := by
      unfold aRoom
      omega
    rw [er] at key
    rw [nI_sub c1]
    exact key
