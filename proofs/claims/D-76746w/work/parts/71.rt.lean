/-! THE TWIN's array g as the world -/
theorem nI_mul (a b : Nat) : nI a * nI b = nI (a * b) := (Int32.ofNat_mul a b).symm
theorem nI_sub {a b : Nat} (h : b ≤ a) : nI a - nI b = nI (a - b) := by
  have e := nI_add (a - b) b
  rw [Nat.sub_add_cancel h] at e
  rw [← e]
  exact Int32.add_sub_cancel _ _
theorem tlen_le (k : Nat) : tlen k ≤ 1018 := by
  unfold tlen
  split <;> omega
theorem trd_n {t : tSt} {k n : Nat} (h : n < tlen k) : trd t k (nI n) = some (t k n) := by
  have h1 := tlen_le k
  unfold trd
  rw [nI_clamp (by omega), if_pos ⟨nI_pos (by omega), h⟩]
theorem twr_n {t : tSt} {k n : Nat} {x : Int32} (h : n < tlen k) : twr t k (nI n) x = some (tup t k n x) := by
  have h1 := tlen_le k
  unfold twr
  rw [nI_clamp (by omega), if_pos ⟨nI_pos (by omega), h⟩]
theorem tup_0 (t : tSt) (j : Nat) (x : Int32) (i : Nat) : tup t 0 j x 0 i = if i = j then x else t 0 i := by simp [tup]
/-- the twin's other arrays and fields stay -/
def tK (t t' : tSt) : Prop := ∀ k, k ≠ 0 → t' k = t k
theorem tK.rf (t : tSt) : tK t t := fun _ _ => rfl
theorem tK.trans {a b c : tSt} (h : tK a b) (k : tK b c) : tK a c := fun x hx => (k x hx).trans (h x hx)
theorem tK_tup {t : tSt} {j : Nat} {x : Int32} : tK t (tup t 0 j x) := fun k hk => tup_ne hk
def rB (k : Nat) : Nat := match k with
  | 0 => 7
  | 1 => 13
  | 2 => 38
  | 3 => 51
  | _ => 64
def rS (k : Nat) : Nat := match k with
  | 1 => 2
  | 2 => 2
  | _ => 1
def rC (k : Nat) : Nat := match k with
  | 0 => 5
  | 2 => 6
  | _ => 12
def rW (k : Nat) : Nat := 1 + rS k * rC k
theorem rB_lo (k : Nat) : 7 ≤ rB k := by
  unfold rB
  split <;> omega
theorem rB_hi {k : Nat} (h : k < 5) : rB k + rW k ≤ 77 := by
  have : ∀ k, k < 5 → rB k + rW k ≤ 77 := by decide
  exact this k h
theorem rB_dis {j k : Nat} (hj : j < 5) (hk : k < 5) (h : j ≠ k) : rB j + rW j ≤ rB k ∨ rB k + rW k ≤ rB j := by
  have : ∀ j, j < 5 → ∀ k, k < 5 → j ≠ k → (rB j + rW j ≤ rB k ∨ rB k + rW k ≤ rB j) := by decide
  exact this j hj k hk h
/-- a row that grows: how many, then the things -/
def sRow (g : Nat → Int32) (b st cap : Nat) (xs : List (Int32 × Int32)) : Prop := g b = nI xs.length ∧ xs.length ≤ cap ∧ ∀ i p, xs[i]? = some p → g (b + 1 + st * i) = p.1 ∧ (st = 2 → g (b + 2 + st * i) = p.2)
theorem sRow.congr {g g' : Nat → Int32} {b k : Nat} {xs : List (Int32 × Int32)} (h : sRow g b (rS k) (rC k) xs) (e : ∀ i, b ≤ i → i < b + rW k → g' i = g i) : sRow g' b (rS k) (rC k) xs := by
  obtain ⟨h1, h2, h3⟩ := h
  have hS : rS k = 1 ∨ rS k = 2 := by
    unfold rS
    split <;> simp
  unfold rW at e
  refine ⟨by rw [e b (Nat.le_refl _) (by omega)]; exact h1, h2, fun i p hp => ?_⟩
  have hi : i < xs.length := (List.getElem?_eq_some_iff.mp hp).1
  obtain ⟨h4, h5⟩ := h3 i p hp
  rcases hS with hS | hS
  · rw [hS] at e h4 ⊢
    refine ⟨by rw [e _ (by omega) (by omega)]; exact h4, fun q => by omega⟩
  · rw [hS] at e h4 h5 ⊢
    exact ⟨by rw [e _ (by omega) (by omega)]; exact h4, fun q => by rw [e _ (by omega) (by omega)]; exact h5 rfl⟩
def Rt (g : Nat → Int32) (w : aW) : Prop :=
  (g 924 = nI (aN w) ∧ aN w ≤ 12) ∧ (∀ i, i < 6 → g (925 + i) = aG w i) ∧ (∀ a, a < aN w → (∀ f, f < 7 → g (77 * a + f) = aF w a f) ∧ ∀ k, k < 5 → sRow g (77 * a + rB k) (rS k) (rC k) (aL w a k)) ∧
  (g 931 = nI (aT w).length ∧ (aT w).length ≤ 10 ∧ ∀ i x, (aT w)[i]? = some x → g (932 + 3 * i) = x.1 ∧ g (933 + 3 * i) = x.2.1 ∧ g (934 + 3 * i) = x.2.2) ∧
  (g 962 = nI (aO w).length ∧ (aO w).length ≤ 30 ∧ ∀ i x, (aO w)[i]? = some x → g (963 + i) = x) ∧
  (g 993 = nI (aC w).length ∧ (aC w).length ≤ 12 ∧ ∀ i x, (aC w)[i]? = some x → g (994 + 2 * i) = x.1 ∧ g (995 + 2 * i) = x.2)
section RTS
variable {g g' : Nat → Int32} {w : aW} {a f k i : Nat} {x : Int32}
theorem Rt.n12 (h : Rt g w) : aN w ≤ 12 := h.1.2
theorem Rt.fld (h : Rt g w) (ha : a < aN w) (hf : f < 7) : g (77 * a + f) = aF w a f := (h.2.2.1 a ha).1 f hf
theorem Rt.row (h : Rt g w) (ha : a < aN w) (k : Nat) (hk : k < 5) : sRow g (77 * a + rB k) (rS k) (rC k) (aL w a k) := (h.2.2.1 a ha).2 k hk
theorem Rt.glo (h : Rt g w) (i : Nat) (hi : i < 6) : g (925 + i) = aG w i := h.2.1 i hi
theorem Rt.len (h : Rt g w) (ha : a < aN w) (k : Nat) (hk : k < 5) : g (77 * a + rB k) = nI (aL w a k).length := (h.row ha k hk).1
theorem Rt.cap (h : Rt g w) (ha : a < aN w) (k : Nat) (hk : k < 5) : (aL w a k).length ≤ rC k := (h.row ha k hk).2.1
theorem Rt.setF (h : Rt g w) (ha : a < aN w) (hf : f < 7) (e : ∀ i, g' i = if i = 77 * a + f then x else g i) : Rt g' (uF w a f x) := by
  have hN := h.n12
  have ne : ∀ i, i ≠ 77 * a + f → g' i = g i := fun i hi => by rw [e, if_neg hi]
  obtain ⟨⟨h1, h2⟩, h3, h4, h5, h6, h7⟩ := h
  refine ⟨⟨by rw [ne _ (by omega)]; exact h1, h2⟩, fun i hi => by rw [ne _ (by omega)]; exact h3 i hi, fun b hb => ⟨fun j hj => ?_, fun k hk => ?_⟩, ⟨by rw [ne _ (by omega)]; exact h5.1, h5.2.1, fun i y hy => ?_⟩, ⟨by rw [ne _ (by omega)]; exact h6.1, h6.2.1, fun i y hy => ?_⟩, ⟨by rw [ne _ (by omega)]; exact h7.1, h7.2.1, fun i y hy => ?_⟩⟩
  · have hb : b < aN w := hb
    rw [uF_F, e]
    by_cases q : b = a ∧ j = f
    · rw [if_pos q, q.1, q.2, if_pos rfl]
    · rw [if_neg q, if_neg (by omega)]
      exact (h4 b hb).1 j hj
  · have hb : b < aN w := hb
    have l1 := rB_lo k
    have l2 := rB_hi hk
    refine ((h4 b hb).2 k hk).congr fun i i1 i2 => ne i (by omega)
  · rw [ne _ (by omega), ne _ (by omega), ne _ (by omega)]
    exact h5.2.2 i y hy
  · rw [ne _ (by omega)]
    exact h6.2.2 i y hy
  · rw [ne _ (by omega), ne _ (by omega)]
    exact h7.2.2 i y hy
theorem Rt.setL (h : Rt g w) (ha : a < aN w) (hk : k < 5) {xs : List (Int32 × Int32)} (e : ∀ i, (i < 77 * a + rB k ∨ 77 * a + rB k + rW k ≤ i) → g' i = g i) (hs : sRow g' (77 * a + rB k) (rS k) (rC k) xs) : Rt g' (uL w a k xs) := by
  have hN := h.n12
  have l1 := rB_lo k
  have l2 := rB_hi hk
  obtain ⟨⟨h1, h2⟩, h3, h4, h5, h6, h7⟩ := h
  refine ⟨⟨by rw [e _ (by omega)]; exact h1, h2⟩, fun i hi => by rw [e _ (by omega)]; exact h3 i hi, fun b hb => ⟨fun j hj => ?_, fun j hj => ?_⟩, ⟨by rw [e _ (by omega)]; exact h5.1, h5.2.1, fun i y hy => ?_⟩, ⟨by rw [e _ (by omega)]; exact h6.1, h6.2.1, fun i y hy => ?_⟩, ⟨by rw [e _ (by omega)]; exact h7.1, h7.2.1, fun i y hy => ?_⟩⟩
  · have hb : b < aN w := hb
    rw [e _ (by omega)]
    exact (h4 b hb).1 j hj
  · have hb : b < aN w := hb
    rw [uL_L]
    by_cases q : b = a ∧ j = k
    · obtain ⟨rfl, rfl⟩ := q
      rw [if_pos ⟨rfl, rfl⟩]
      exact hs
    · rw [if_neg q]
      have m1 := rB_lo j
      have m2 := rB_hi hj
      refine ((h4 b hb).2 j hj).congr fun i i1 i2 => e i ?_
      by_cases q2 : b = a
      · have := rB_dis hj hk (fun z => q ⟨q2, z⟩)
        omega
      · omega
  · rw [e _ (by omega), e _ (by omega), e _ (by omega)]
    exact h5.2.2 i y hy
  · rw [e _ (by omega)]
    exact h6.2.2 i y hy
  · rw [e _ (by omega), e _ (by omega)]
    exact h7.2.2 i y hy
theorem Rt.setG (h : Rt g w) (hi : i < 6) (e : ∀ j, g' j = if j = 925 + i then x else g j) : Rt g' (uG w i x) := by
  have hN := h.n12
  have ne : ∀ j, j ≠ 925 + i → g' j = g j := fun j hj => by rw [e, if_neg hj]
  obtain ⟨⟨h1, h2⟩, h3, h4, h5, h6, h7⟩ := h
  refine ⟨⟨by rw [ne _ (by omega)]; exact h1, h2⟩, fun j hj => ?_, fun b hb => ⟨fun j hj => ?_, fun k hk => ?_⟩, ⟨by rw [ne _ (by omega)]; exact h5.1, h5.2.1, fun i y hy => ?_⟩, ⟨by rw [ne _ (by omega)]; exact h6.1, h6.2.1, fun i y hy => ?_⟩, ⟨by rw [ne _ (by omega)]; exact h7.1, h7.2.1, fun i y hy => ?_⟩⟩
  · rw [uG_G, e]
    by_cases q : j = i
    · rw [if_pos q, q, if_pos rfl]
    · rw [if_neg q, if_neg (by omega)]
      exact h3 j hj
  · have hb : b < aN w := hb
    rw [ne _ (by omega)]
    exact (h4 b hb).1 j hj
  · have hb : b < aN w := hb
    have l2 := rB_hi hk
    refine ((h4 b hb).2 k hk).congr fun i i1 i2 => ne i (by omega)
  · rw [ne _ (by omega), ne _ (by omega), ne _ (by omega)]
    exact h5.2.2 i y hy
  · have := (List.getElem?_eq_some_iff.mp hy).1
    rw [ne _ (by omega)]
    exact h6.2.2 i y hy
  · rw [ne _ (by omega), ne _ (by omega)]
    exact h7.2.2 i y hy
theorem Rt.setT (h : Rt g w) {xs : List (Int32 × Int32 × Int32)} (e : ∀ j, (j < 931 ∨ 962 ≤ j) → g' j = g j) (hs : g' 931 = nI xs.length ∧ xs.length ≤ 10 ∧ ∀ i x, xs[i]? = some x → g' (932 + 3 * i) = x.1 ∧ g' (933 + 3 * i) = x.2.1 ∧ g' (934 + 3 * i) = x.2.2) : Rt g' (uT w xs) := by
  have hN := h.n12
  obtain ⟨⟨h1, h2⟩, h3, h4, h5, h6, h7⟩ := h
  refine ⟨⟨by rw [e _ (by omega)]; exact h1, h2⟩, fun j hj => by rw [e _ (by omega)]; exact h3 j hj, fun b hb => ⟨fun j hj => ?_, fun k hk => ?_⟩, hs, ⟨by rw [e _ (by omega)]; exact h6.1, h6.2.1, fun i y hy => by rw [e _ (by omega)]; exact h6.2.2 i y hy⟩, ⟨by rw [e _ (by omega)]; exact h7.1, h7.2.1, fun i y hy => by rw [e _ (by omega), e _ (by omega)]; exact h7.2.2 i y hy⟩⟩
  · have hb : b < aN w := hb
    rw [e _ (by omega)]
    exact (h4 b hb).1 j hj
  · have hb : b < aN w := hb
    have l2 := rB_hi hk
    exact ((h4 b hb).2 k hk).congr fun i i1 i2 => e i (by omega)
theorem Rt.setO (h : Rt g w) {xs : List Int32} (e : ∀ j, (j < 962 ∨ 993 ≤ j) → g' j = g j) (hs : g' 962 = nI xs.length ∧ xs.length ≤ 30 ∧ ∀ i x, xs[i]? = some x → g' (963 + i) = x) : Rt g' (uO w xs) := by
  have hN := h.n12
  obtain ⟨⟨h1, h2⟩, h3, h4, h5, h6, h7⟩ := h
  refine ⟨⟨by rw [e _ (by omega)]; exact h1, h2⟩, fun j hj => by rw [e _ (by omega)]; exact h3 j hj, fun b hb => ⟨fun j hj => ?_, fun k hk => ?_⟩, ⟨by rw [e _ (by omega)]; exact h5.1, h5.2.1, fun i y hy => ?_⟩, hs, ⟨by rw [e _ (by omega)]; exact h7.1, h7.2.1, fun i y hy => by rw [e _ (by omega), e _ (by omega)]; exact h7.2.2 i y hy⟩⟩
  · have hb : b < aN w := hb
    rw [e _ (by omega)]
    exact (h4 b hb).1 j hj
  · have hb : b < aN w := hb
    have l2 := rB_hi hk
    exact ((h4 b hb).2 k hk).congr fun i i1 i2 => e i (by omega)
  · have : i < (aT w).length := (List.getElem?_eq_some_iff.mp hy).1
    rw [e _ (by omega), e _ (by omega), e _ (by omega)]
    exact h5.2.2 i y hy
theorem Rt.setC (h : Rt g w) {xs : List (Int32 × Int32)} (e : ∀ j, j < 993 → g' j = g j) (hs : g' 993 = nI xs.length ∧ xs.length ≤ 12 ∧ ∀ i x, xs[i]? = some x → g' (994 + 2 * i) = x.1 ∧ g' (995 + 2 * i) = x.2) : Rt g' (uC w xs) := by
  have hN := h.n12
  obtain ⟨⟨h1, h2⟩, h3, h4, h5, h6, h7⟩ := h
  refine ⟨⟨by rw [e _ (by omega)]; exact h1, h2⟩, fun j hj => by rw [e _ (by omega)]; exact h3 j hj, fun b hb => ⟨fun j hj => ?_, fun k hk => ?_⟩, ⟨by rw [e _ (by omega)]; exact h5.1, h5.2.1, fun i y hy => ?_⟩, ⟨by rw [e _ (by omega)]; exact h6.1, h6.2.1, fun i y hy => ?_⟩, hs⟩
  · have hb : b < aN w := hb
    rw [e _ (by omega)]
    exact (h4 b hb).1 j hj
  · have hb : b < aN w := hb
    have l2 := rB_hi hk
    exact ((h4 b hb).2 k hk).congr fun i i1 i2 => e i (by omega)
  · have : i < (aT w).length := (List.getElem?_eq_some_iff.mp hy).1
    rw [e _ (by omega), e _ (by omega), e _ (by omega)]
    exact h5.2.2 i y hy
  · have : i < (aO w).length := (List.getElem?_eq_some_iff.mp hy).1
    rw [e _ (by omega)]
    exact h6.2.2 i y hy
end RTS
