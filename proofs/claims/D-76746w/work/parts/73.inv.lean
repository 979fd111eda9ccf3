/-! what holds of the world -/
def mOk (N : Nat) (q : Int32 × Int32) : Prop := ((q.1 = -1 ∨ ∃ j, j < N ∧ q.1 = nI j) ∧ -99 ≤ q.2.toInt ∧ q.2.toInt ≤ 99) ∨ (q.1 = -1 ∧ ∃ x, x < N ∧ q.2 = nI 1000 + nI x)
/-- noted: in order, up to the time -/
def nOk (tm : Nat) (xs : List (Int32 × Int32)) : Prop := (∀ q ∈ xs, ∃ x, x ≤ tm ∧ q.1 = nI x) ∧ xs.Pairwise (fun p q => p.1.toInt ≤ q.1.toInt)
def aIa (N tm a : Nat) (F : Nat → Int32) (L : Nat → List (Int32 × Int32)) : Prop :=
  (((a = 0 ∧ F 0 = -1) ∨ ∃ p, p < a ∧ F 0 = nI p) ∧ (∃ x, x ≤ 9 ∧ F 1 = nI x) ∧ (F 2 = nI 0 ∨ F 2 = nI 1 ∨ F 2 = nI 2) ∧ (∃ x, x ≤ 9 ∧ F 3 = nI x) ∧ (∃ x, x ≤ 50 ∧ F 4 = nI x) ∧ (F 5 = nI 0 ∨ F 5 = nI 1)) ∧
  ((1 ≤ (L 0).length ∧ (L 0).length ≤ 5) ∧ ∀ q ∈ L 0, ∃ b, b ≤ 9 ∧ q = (nI b, nI 0)) ∧ ((L 1).length ≤ 12 ∧ ∀ q ∈ L 1, mOk N q) ∧ ((L 2).length ≤ 6 ∧ ∀ q ∈ L 2, mOk N q) ∧
  ((L 3).Nodup ∧ ∀ q ∈ L 3, ∃ j, j < N ∧ q = (nI j, nI 0)) ∧ ((L 4).length ≤ 10 ∧ nOk tm (L 4)) ∧ (F 5 = nI 0 → L 1 = [] ∧ L 2 = [] ∧ L 4 = [])
def aIt (N tm : Nat) (x : Int32 × Int32 × Int32) : Prop := (∃ j, j < N ∧ x.1 = nI j) ∧ (∃ d, tm ≤ d ∧ d ≤ tm + 8 ∧ x.2.1 = nI d) ∧ 0 ≤ x.2.2.toInt ∧ x.2.2.toInt ≤ 98
def aI (w : aW) (tm : Nat) : Prop :=
  aN w ≤ 12 ∧ (∀ a, a < aN w → aIa (aN w) tm a (aF w a) (aL w a)) ∧ (∀ a, a < aN w → ∀ p, p < a → aF w a 0 = nI p → aF w a 5 = nI 1 → aF w p 5 = nI 1) ∧ (aG w 0 = nI tm ∧ tm < 2 ^ 30 ∧ (aG w 3 = -1 ∨ ∃ j, j < 12 ∧ aG w 3 = nI j)) ∧
  ((aT w).length ≤ 10 ∧ ∀ x ∈ aT w, aIt (aN w) tm x) ∧ (aO w).length ≤ 30 ∧ (aC w).length ≤ 12
/-- no more than nine noted of those below n -/
def aI9 (w : aW) (n : Nat) : Prop := ∀ a, a < aN w → a < n → (aL w a 4).length ≤ 9
section INV
variable {w : aW} {tm a : Nat}
theorem aI.n12 (h : aI w tm) : aN w ≤ 12 := h.1
theorem aI.act (h : aI w tm) (ha : a < aN w) : aIa (aN w) tm a (aF w a) (aL w a) := h.2.1 a ha
theorem aI.par (h : aI w tm) (ha : a < aN w) : (a = 0 ∧ aF w a 0 = -1) ∨ ∃ p, p < a ∧ aF w a 0 = nI p := (h.act ha).1.1
theorem aI.live (h : aI w tm) (ha : a < aN w) : aF w a 5 = nI 0 ∨ aF w a 5 = nI 1 := (h.act ha).1.2.2.2.2.2
/-- an actor's rows are changed -/
theorem aI.setL (h : aI w tm) {k : Nat} {xs : List (Int32 × Int32)} (hx : a < aN w → aIa (aN w) tm a (aF w a) (fun j => if j = k then xs else aL w a j)) : aI (uL w a k xs) tm := by
  obtain ⟨h1, h2, h3⟩ := h
  refine ⟨h1, fun b hb => ?_, h3⟩
  have hb : b < aN w := hb
  show aIa (aN w) tm b (aF w b) (fun j => if b = a ∧ j = k then xs else aL w b j)
  by_cases c : b = a
  · subst c
    have e : (fun j => if b = b ∧ j = k then xs else aL w b j) = fun j => if j = k then xs else aL w b j := by
      funext j
      simp
    rw [e]
    exact hx hb
  · have e : (fun j => if b = a ∧ j = k then xs else aL w b j) = aL w b := by
      funext j
      rw [if_neg (fun q => c q.1)]
    rw [e]
    exact h2 b hb
theorem aIa.set1 {N tm a : Nat} {F : Nat → Int32} {L : Nat → List (Int32 × Int32)} (h : aIa N tm a F L) {xs : List (Int32 × Int32)} (h1 : xs.length ≤ 12) (h2 : ∀ q ∈ xs, mOk N q) (h3 : F 5 = nI 0 → xs = []) : aIa N tm a F (fun j => if j = 1 then xs else L j) := ⟨h.1, h.2.1, ⟨h1, h2⟩, h.2.2.2.1, h.2.2.2.2.1, h.2.2.2.2.2.1, fun q => ⟨h3 q, (h.2.2.2.2.2.2 q).2⟩⟩
theorem aIa.set2 {N tm a : Nat} {F : Nat → Int32} {L : Nat → List (Int32 × Int32)} (h : aIa N tm a F L) {xs : List (Int32 × Int32)} (h1 : xs.length ≤ 6) (h2 : ∀ q ∈ xs, mOk N q) (h3 : F 5 = nI 0 → xs = []) : aIa N tm a F (fun j => if j = 2 then xs else L j) := ⟨h.1, h.2.1, h.2.2.1, ⟨h1, h2⟩, h.2.2.2.2.1, h.2.2.2.2.2.1, fun q => ⟨(h.2.2.2.2.2.2 q).1, h3 q, (h.2.2.2.2.2.2 q).2.2⟩⟩
theorem aIa.set0 {N tm a : Nat} {F : Nat → Int32} {L : Nat → List (Int32 × Int32)} (h : aIa N tm a F L) {xs : List (Int32 × Int32)} (h1 : 1 ≤ xs.length ∧ xs.length ≤ 5) (h2 : ∀ q ∈ xs, ∃ b, b ≤ 9 ∧ q = (nI b, nI 0)) : aIa N tm a F (fun j => if j = 0 then xs else L j) := ⟨h.1, ⟨h1, h2⟩, h.2.2.1, h.2.2.2.1, h.2.2.2.2.1, h.2.2.2.2.2.1, h.2.2.2.2.2.2⟩
theorem aIa.set3 {N tm a : Nat} {F : Nat → Int32} {L : Nat → List (Int32 × Int32)} (h : aIa N tm a F L) {xs : List (Int32 × Int32)} (h1 : xs.Nodup) (h2 : ∀ q ∈ xs, ∃ j, j < N ∧ q = (nI j, nI 0)) : aIa N tm a F (fun j => if j = 3 then xs else L j) := ⟨h.1, h.2.1, h.2.2.1, h.2.2.2.1, ⟨h1, h2⟩, h.2.2.2.2.2.1, h.2.2.2.2.2.2⟩
theorem aIa.set4 {N tm a : Nat} {F : Nat → Int32} {L : Nat → List (Int32 × Int32)} (h : aIa N tm a F L) {xs : List (Int32 × Int32)} (h1 : xs.length ≤ 10) (h2 : nOk tm xs) (h3 : F 5 = nI 0 → xs = []) : aIa N tm a F (fun j => if j = 4 then xs else L j) := ⟨h.1, h.2.1, h.2.2.1, h.2.2.2.1, h.2.2.2.2.1, ⟨h1, h2⟩, fun q => ⟨(h.2.2.2.2.2.2 q).1, (h.2.2.2.2.2.2 q).2.1, h3 q⟩⟩
theorem aI.setG (h : aI w tm) {i : Nat} {x : Int32} (hi : i ≠ 0) (h3 : i = 3 → x = -1 ∨ ∃ j, j < 12 ∧ x = nI j) : aI (uG w i x) tm := by
  obtain ⟨h1, h2, hp, ⟨g1, g2, g3⟩, h5⟩ := h
  refine ⟨h1, h2, hp, ⟨?_, g2, ?_⟩, h5⟩
  · rw [uG_G, if_neg (fun q => hi q.symm)]; exact g1
  · rw [uG_G]
    by_cases c : i = 3
    · rw [if_pos c.symm]; exact h3 c
    · rw [if_neg (fun q => c q.symm)]; exact g3
theorem aI.setT (h : aI w tm) {xs : List (Int32 × Int32 × Int32)} (h1 : xs.length ≤ 10) (h2 : ∀ x ∈ xs, aIt (aN w) tm x) : aI (uT w xs) tm := ⟨h.1, h.2.1, h.2.2.1, h.2.2.2.1, ⟨h1, h2⟩, h.2.2.2.2.2⟩
theorem aI.setO (h : aI w tm) {xs : List Int32} (h1 : xs.length ≤ 30) : aI (uO w xs) tm := ⟨h.1, h.2.1, h.2.2.1, h.2.2.2.1, h.2.2.2.2.1, h1, h.2.2.2.2.2.2⟩
theorem aI.setC (h : aI w tm) {xs : List (Int32 × Int32)} (h1 : xs.length ≤ 12) : aI (uC w xs) tm := ⟨h.1, h.2.1, h.2.2.1, h.2.2.2.1, h.2.2.2.2.1, h.2.2.2.2.2.1, h1⟩
theorem aI.setF6 (h : aI w tm) {x : Int32} : aI (uF w a 6 x) tm := by
  obtain ⟨h1, h2, h3, h4⟩ := h
  have e : ∀ b f, f ≠ 6 → aF (uF w a 6 x) b f = aF w b f := fun b f hf => by rw [uF_F, if_neg (fun q => hf q.2)]
  refine ⟨h1, fun b hb => ?_, fun b hb p hp e0 e5 => ?_, h4⟩
  · have hb : b < aN w := hb
    have g := h2 b hb
    unfold aIa at g ⊢
    rw [e b 0 (by decide), e b 1 (by decide), e b 2 (by decide), e b 3 (by decide), e b 4 (by decide), e b 5 (by decide)]
    exact g
  · rw [e b 0 (by decide)] at e0
    rw [e b 5 (by decide)] at e5
    rw [e p 5 (by decide)]
    exact h3 b hb p hp e0 e5
/-- what never changes below: how many, parents and the like; live ones only fewer; noted the same or none -/
def aM (w w' : aW) : Prop := aN w' = aN w ∧ (∀ a f, f < 5 → aF w' a f = aF w a f) ∧ (∀ a, aF w' a 5 = aF w a 5 ∨ aF w' a 5 = nI 0) ∧ (∀ i, i ≠ 2 → aG w' i = aG w i) ∧ (∀ a, aL w' a 4 = aL w a 4 ∨ aL w' a 4 = []) ∧ aO w' = aO w ∧ aC w' = aC w
theorem aM.rf (w : aW) : aM w w := ⟨rfl, fun _ _ _ => rfl, fun _ => Or.inl rfl, fun _ _ => rfl, fun _ => Or.inl rfl, rfl, rfl⟩
theorem aM.trans {a b c : aW} (h : aM a b) (k : aM b c) : aM a c := by
  obtain ⟨h1, h2, h3, h4, h5, h6, h7⟩ := h
  obtain ⟨k1, k2, k3, k4, k5, k6, k7⟩ := k
  refine ⟨k1.trans h1, fun x f hf => (k2 x f hf).trans (h2 x f hf), fun x => ?_, fun i hi => (k4 i hi).trans (h4 i hi), fun x => ?_, k6.trans h6, k7.trans h7⟩
  · rcases k3 x with e | e
    · rw [e]; exact h3 x
    · exact Or.inr e
  · rcases k5 x with e | e
    · rw [e]; exact h5 x
    · exact Or.inr e
theorem aM.live {w w' : aW} (h : aM w w') {a : Nat} (hl : aF w' a 5 = nI 1) : aF w a 5 = nI 1 := by
  rcases h.2.2.1 a with e | e
  · rw [← e]; exact hl
  · rw [e] at hl; exact absurd hl (by decide)
theorem aM.dead {w w' : aW} (h : aM w w') {a : Nat} (hl : aF w a 5 = nI 0) : aF w' a 5 = nI 0 := by
  rcases h.2.2.1 a with e | e
  · rw [e]; exact hl
  · exact e
theorem aM.n9 {w w' : aW} (h : aM w w') {n : Nat} (hl : aI9 w n) : aI9 w' n := fun a ha hn => by
  rw [h.1] at ha
  rcases h.2.2.2.2.1 a with e | e
  · rw [e]; exact hl a ha hn
  · rw [e]; exact Nat.zero_le _
theorem aM_sends {w : aW} {a : Nat} {m : Int32 × Int32} : aM w (aSends w a m).2 := by
  unfold aSends
  split
  · exact ⟨rfl, fun _ _ _ => rfl, fun _ => Or.inl rfl, fun _ _ => rfl, fun b => Or.inl (by rw [uL_L, if_neg (by omega)]), rfl, rfl⟩
  · exact ⟨rfl, fun _ _ _ => rfl, fun _ => Or.inl rfl, fun i hi => by rw [uG_G, if_neg hi], fun b => Or.inl rfl, rfl, rfl⟩
theorem aI_sends {w : aW} {tm a : Nat} {m : Int32 × Int32} (h : aI w tm) (hm : mOk (aN w) m) : aI (aSends w a m).2 tm := by
  unfold aSends
  by_cases c : aF w a 5 = nI 1 ∧ (aL w a 1).length < 12
  · rw [if_pos c]
    refine h.setL fun ha => (h.act ha).set1 (by rw [List.length_append]; exact c.2) (fun q hq => ?_) (fun q => by rw [c.1] at q; exact absurd q (by decide))
    rcases List.mem_append.mp hq with z | z
    · exact (h.act ha).2.2.1.2 q z
    · rw [List.mem_singleton.mp z]; exact hm
  · rw [if_neg c]
    exact h.setG (by decide) (fun q => absurd q (by decide))
theorem aM_back {w : aW} {a : Nat} : aM w (aBack w a) := ⟨rfl, fun _ _ _ => rfl, fun _ => Or.inl rfl, fun i hi => by
  show aG (uG _ 2 _) i = _
  rw [uG_G, if_neg hi]; rfl, fun b => Or.inl (by
  show aL (uL (uL w a 1 _) a 2 _) b 4 = _
  rw [uL_L, uL_L, if_neg (by omega), if_neg (by omega)]), rfl, rfl⟩
theorem aI_back {w : aW} {tm a : Nat} (h : aI w tm) : aI (aBack w a) tm := by
  unfold aBack
  refine aI.setG ?_ (by decide) (fun q => absurd q (by decide))
  have hr : aRoom w a ≤ (aL w a 2).length ∧ aRoom w a ≤ 12 - (aL w a 1).length := by
    unfold aRoom
    omega
  have h1 : aI (uL w a 1 ((aL w a 2).take (aRoom w a) ++ aL w a 1)) tm := h.setL fun ha => by
    have g := h.act ha
    refine g.set1 ?_ (fun q hq => ?_) (fun q => ?_)
    · have := g.2.2.1.1
      rw [List.length_append, List.length_take]
      omega
    · rcases List.mem_append.mp hq with z | z
      · exact g.2.2.2.1.2 q (List.mem_of_mem_take z)
      · exact g.2.2.1.2 q z
    · rw [(g.2.2.2.2.2.2 q).1, (g.2.2.2.2.2.2 q).2.1]; simp
  exact h1.setL fun ha => (h1.act ha).set2 (Nat.zero_le _) (fun q hq => by cases hq) (fun _ => rfl)
theorem aM_forget {w : aW} {a : Nat} : aM w (aForget w a) := ⟨rfl, fun _ _ _ => rfl, fun _ => Or.inl rfl, fun _ _ => rfl, fun b => by
  show aL (uL (uL w a 0 _) a 4 []) b 4 = _ ∨ aL (uL (uL w a 0 _) a 4 []) b 4 = _
  rw [uL_L]
  by_cases c : b = a
  · rw [if_pos ⟨c, rfl⟩]; exact Or.inr rfl
  · rw [if_neg (fun q => c q.1), uL_L, if_neg (by omega)]; exact Or.inl rfl, rfl, rfl⟩
theorem aI_forget {w : aW} {tm a : Nat} (h : aI w tm) : aI (aForget w a) tm := by
  unfold aForget
  have h1 : aI (uL w a 0 ((aL w a 0).take 1)) tm := h.setL fun ha => by
    have g := h.act ha
    refine g.set0 ?_ (fun q hq => g.2.1.2 q (List.mem_of_mem_take hq))
    have := g.2.1.1
    rw [List.length_take]
    omega
  have h2 : aI (uL (uL w a 0 ((aL w a 0).take 1)) a 4 []) tm := h1.setL fun ha => (h1.act ha).set4 (Nat.zero_le _) ⟨fun q hq => absurd hq List.not_mem_nil, List.Pairwise.nil⟩ (fun _ => rfl)
  refine h2.setT ?_ (fun x hx => ?_)
  · exact Nat.le_trans (List.length_filter_le _ _) h.2.2.2.2.1.1
  · exact h.2.2.2.2.1.2 x (List.mem_filter.mp hx).1
theorem aM_unw {w : aW} {a : Nat} : aM w (aUnw w a) := ⟨rfl, fun _ _ _ => rfl, fun _ => Or.inl rfl, fun _ _ => rfl, fun b => Or.inl (by
  show (if (4 : Nat) = 3 ∧ b < aN w then (aL w b 3).filter (fun q => !(q.1 == nI a)) else aL w b 4) = aL w b 4
  rw [if_neg (by omega)]), rfl, rfl⟩
theorem aI_unw {w : aW} {tm a : Nat} (h : aI w tm) : aI (aUnw w a) tm := by
  obtain ⟨h1, h2, h3⟩ := h
  refine ⟨h1, fun b hb => ?_, h3⟩
  have hb : b < aN w := hb
  have g := h2 b hb
  have e : aL (aUnw w a) b = fun k => if k = 3 then (aL w b 3).filter (fun q => !(q.1 == nI a)) else aL w b k := by
    funext k
    show (if k = 3 ∧ b < aN w then _ else _) = _
    by_cases c : k = 3
    · rw [if_pos ⟨c, hb⟩, if_pos c]
    · rw [if_neg (fun q => c q.1), if_neg c]
  rw [e]
  exact g.set3 (g.2.2.2.2.1.1.filter _) (fun q hq => g.2.2.2.2.1.2 q (List.mem_filter.mp hq).1)
theorem aM_told {m : Int32 × Int32} : ∀ (ws : List (Int32 × Int32)) (w : aW), aM w (aTold m ws w) := by
  intro ws
  induction ws with
  | nil => exact fun w => aM.rf w
  | cons q ws ih => exact fun w => aM.trans aM_sends (ih _)
theorem aI_told {tm : Nat} {m : Int32 × Int32} : ∀ (ws : List (Int32 × Int32)) (w : aW), aI w tm → mOk (aN w) m → aI (aTold m ws w) tm := by
  intro ws
  induction ws with
  | nil => exact fun w h _ => h
  | cons q ws ih => exact fun w h hm => ih _ (aI_sends h hm) (by rw [aM_sends.1]; exact hm)
theorem aM_stopped {w : aW} {a : Nat} : aM w (aStopped w a) := by
  refine aM.trans (b := uL (uL (uF w a 5 (nI 0)) a 1 []) a 2 []) ⟨rfl, fun b f hf => ?_, fun b => ?_, fun _ _ => rfl, fun b => Or.inl ?_, rfl, rfl⟩ (aM.trans aM_forget aM_unw)
  · show aF (uF w a 5 (nI 0)) b f = _
    rw [uF_F, if_neg (by omega)]
  · show aF (uF w a 5 (nI 0)) b 5 = _ ∨ aF (uF w a 5 (nI 0)) b 5 = _
    rw [uF_F]
    by_cases c : b = a
    · rw [if_pos ⟨c, rfl⟩]; exact Or.inr rfl
    · rw [if_neg (fun q => c q.1)]; exact Or.inl rfl
  · show aL (uL (uL (uF w a 5 (nI 0)) a 1 []) a 2 []) b 4 = _
    rw [uL_L, uL_L, if_neg (by omega), if_neg (by omega)]; rfl
/-- one that has no live children stops -/
theorem aI_stopped {w : aW} {tm a : Nat} (h : aI w tm) (ha : a < aN w) (hc : ∀ c, c < aN w → aF w c 0 = nI a → ¬ aF w c 5 = nI 1) : aI (aStopped w a) tm := by
  unfold aStopped
  refine aI_unw ?_
  obtain ⟨h1, h2, h3, h4, h5⟩ := h
  have eL : aL (aForget (uL (uL (uF w a 5 (nI 0)) a 1 []) a 2 []) a) a = fun k => if k = 4 then [] else if k = 0 then (aL w a 0).take 1 else if k = 2 then [] else if k = 1 then [] else aL w a k := by
    funext k
    show aL (uL (uL (uL (uL (uF w a 5 (nI 0)) a 1 []) a 2 []) a 0 _) a 4 []) a k = _
    simp only [uL_L, uF_L, true_and]
    rfl
  have eF : ∀ b f, aF (aForget (uL (uL (uF w a 5 (nI 0)) a 1 []) a 2 []) a) b f = if b = a ∧ f = 5 then nI 0 else aF w b f := fun b f => rfl
  have eO : ∀ b, b ≠ a → aL (aForget (uL (uL (uF w a 5 (nI 0)) a 1 []) a 2 []) a) b = aL w b := fun b hb => by
    funext k
    show aL (uL (uL (uL (uL (uF w a 5 (nI 0)) a 1 []) a 2 []) a 0 _) a 4 []) b k = _
    simp only [uL_L, uF_L, hb, false_and, if_false]
  refine ⟨h1, fun b hb => ?_, fun b hb p hp e0 e5 => ?_, h4, ⟨?_, fun x hx => ?_⟩, h5.2⟩
  · have hb : b < aN w := hb
    have g := h2 b hb
    by_cases c : b = a
    · subst c
      rw [eL]
      obtain ⟨⟨g1, g2, g3, g4, g5, g6⟩, ⟨k1, k2⟩, -, -, k5, -, -⟩ := g
      refine ⟨⟨?_, ?_, ?_, ?_, ?_, Or.inl ?_⟩, ⟨?_, fun q hq => k2 q (List.mem_of_mem_take hq)⟩, ⟨Nat.zero_le _, fun q hq => by cases hq⟩, ⟨Nat.zero_le _, fun q hq => by cases hq⟩, k5, ⟨Nat.zero_le _, ⟨fun q hq => absurd hq List.not_mem_nil, List.Pairwise.nil⟩⟩, fun _ => ⟨rfl, rfl, rfl⟩⟩
      · rw [eF, if_neg (by omega)]; exact g1
      · rw [eF, if_neg (by omega)]; exact g2
      · rw [eF, if_neg (by omega)]; exact g3
      · rw [eF, if_neg (by omega)]; exact g4
      · rw [eF, if_neg (by omega)]; exact g5
      · rw [eF, if_pos ⟨rfl, rfl⟩]
      · show 1 ≤ ((aL w b 0).take 1).length ∧ ((aL w b 0).take 1).length ≤ 5
        rw [List.length_take]
        omega
    · rw [eO b c]
      unfold aIa at g ⊢
      simp only [eF, c, false_and, if_false]
      exact g
  · have hb : b < aN w := hb
    rw [eF, if_neg (by omega)] at e0
    rw [eF] at e5 ⊢
    by_cases c : b = a
    · rw [if_pos ⟨c, rfl⟩] at e5
      exact absurd e5 (by decide)
    · rw [if_neg (fun q => c q.1)] at e5
      by_cases c2 : p = a
      · subst c2
        exact absurd e5 (hc b hb e0)
      · rw [if_neg (fun q => c2 q.1)]
        exact h3 b hb p hp e0 e5
  · exact Nat.le_trans (List.length_filter_le _ _) h5.1.1
  · exact h5.1.2 x (List.mem_filter.mp hx).1
theorem aM_uL {w : aW} {a k : Nat} {xs : List (Int32 × Int32)} (hk : k ≠ 4) : aM w (uL w a k xs) := ⟨rfl, fun _ _ _ => rfl, fun _ => Or.inl rfl, fun _ _ => rfl, fun b => Or.inl (by rw [uL_L, if_neg (by omega)]), rfl, rfl⟩
theorem aM_gone {w : aW} {a : Nat} : aM w (aGone w a) := aM.trans aM_stopped (aM.trans (b := uL (aStopped w a) a 3 []) (aM_uL (by decide)) (aM_told _ _))
theorem aI_gone {w : aW} {tm a : Nat} (h : aI w tm) (ha : a < aN w) (hc : ∀ c, c < aN w → aF w c 0 = nI a → ¬ aF w c 5 = nI 1) : aI (aGone w a) tm := by
  have h1 := aI_stopped h ha hc
  have h2 : aI (uL (aStopped w a) a 3 []) tm := h1.setL fun hq => (h1.act hq).set3 List.nodup_nil (fun q hq => by cases hq)
  exact aI_told _ _ h2 (Or.inr ⟨rfl, a, ha, rfl⟩)
theorem aGone_dead {w : aW} {a : Nat} : aF (aGone w a) a 5 = nI 0 := by
  show aF (aTold (-1, nI 1000 + nI a) (aL (aStopped w a) a 3) (uL (aStopped w a) a 3 [])) a 5 = nI 0
  refine (aM_told (m := (-1, nI 1000 + nI a)) (aL (aStopped w a) a 3) (uL (aStopped w a) a 3 [])).dead ?_
  show aF (uF w a 5 (nI 0)) a 5 = _
  rw [uF_F, if_pos ⟨rfl, rfl⟩]
/-- the live children stop -/
theorem aM_belowN {f : aW → Nat → aW} (hf : ∀ w a, aM w (f w a)) (a : Nat) : ∀ (i : Nat) (w : aW), aM w (aBelowN f a i w) := by
  intro i
  induction i with
  | zero => exact fun w => aM.rf w
  | succ i ih =>
    intro w
    unfold aBelowN
    refine aM.trans ?_ (ih _)
    split
    · exact hf w i
    · exact aM.rf w
theorem aM_stop : ∀ (n : Nat) (w : aW) (a : Nat), aM w (aStop n w a) := by
  intro n
  induction n with
  | zero => exact fun w a => aM.rf w
  | succ n ih => exact fun w a => aM.trans (aM_belowN ih a _ w) aM_gone
theorem aM_below (n : Nat) (w : aW) (a : Nat) : aM w (aBelow (aStop n) w a) := aM_belowN (aM_stop n) a _ w
theorem nI_inj {a b : Nat} (ha : a < 2 ^ 31) (hb : b < 2 ^ 31) (h : nI a = nI b) : a = b := (nI_eq ha hb).mp h
theorem nI_nm1 {a : Nat} (ha : a < 2 ^ 31) : ¬ (-1 : Int32) = nI a := fun h => by
  have h1 : (-1 : Int32) < 0 := by decide
  rw [h] at h1
  exact nI_pos ha h1
theorem aI.child {w : aW} {tm a c : Nat} (h : aI w tm) (hc : c < aN w) (ha : a < 2 ^ 31) (e : aF w c 0 = nI a) : a < c := by
  have hN := h.n12
  rcases h.par hc with q | ⟨p, hp, q⟩
  · rw [q.2] at e
    exact absurd e (nI_nm1 ha)
  · rw [q] at e
    rw [← nI_inj (by omega) ha e]
    exact hp
theorem aI_belowN {f : aW → Nat → aW} {tm n : Nat} (hm : ∀ w a, aM w (f w a)) (hf : ∀ w a, aI w tm → a < aN w → aN w ≤ a + n → aI (f w a) tm ∧ aF (f w a) a 5 = nI 0) {a : Nat} (ha : a < 12) : ∀ (i : Nat) (w : aW), aI w tm → i ≤ aN w → aN w ≤ a + 1 + n → aI (aBelowN f a i w) tm ∧ ∀ c, c < i → aF w c 0 = nI a → ¬ aF (aBelowN f a i w) c 5 = nI 1 := by
  intro i
  induction i with
  | zero => exact fun w h _ _ => ⟨h, fun c hc => by omega⟩
  | succ i ih =>
    intro w h hi hn
    unfold aBelowN
    by_cases c : aF w i 0 = nI a ∧ aF w i 5 = nI 1
    · rw [if_pos c]
      have hai : a < i := h.child (by omega) (by omega) c.1
      obtain ⟨h1, h2⟩ := hf w i h (by omega) (by omega)
      obtain ⟨h3, h4⟩ := ih (f w i) h1 (by rw [(hm w i).1]; omega) (by rw [(hm w i).1]; exact hn)
      refine ⟨h3, fun x hx e0 => ?_⟩
      by_cases cx : x = i
      · rw [cx, (aM_belowN hm a i (f w i)).dead h2]
        decide
      · exact h4 x (by omega) (by rw [(hm w i).2.1 x 0 (by decide)]; exact e0)
    · rw [if_neg c]
      obtain ⟨h3, h4⟩ := ih w h (by omega) hn
      refine ⟨h3, fun x hx e0 => ?_⟩
      by_cases cx : x = i
      · rw [cx]
        intro e5
        rw [cx] at e0
        exact c ⟨e0, (aM_belowN hm a i w).live e5⟩
      · exact h4 x (by omega) e0
theorem aI_stop {tm : Nat} : ∀ (n : Nat) (w : aW) (a : Nat), aI w tm → a < aN w → aN w ≤ a + n → aI (aStop n w a) tm ∧ aF (aStop n w a) a 5 = nI 0 := by
  intro n
  induction n with
  | zero => intro w a h ha hn; omega
  | succ n ih =>
    intro w a h ha hn
    have hN := h.n12
    obtain ⟨h1, h2⟩ := aI_belowN (n := n) (aM_stop n) ih (a := a) (by omega) (aN w) w h (Nat.le_refl _) (by omega)
    have e := aM_below n w a
    have eN : aN (aBelow (aStop n) w a) = aN w := e.1
    refine ⟨aI_gone h1 (by rw [eN]; exact ha) (fun c hc e0 => ?_), aGone_dead⟩
    have hc : c < aN w := Nat.lt_of_lt_of_eq hc eN
    have e0 : aF w c 0 = nI a := (e.2.1 c 0 (by decide)).symm.trans e0
    exact h2 c hc e0
theorem aI_below {tm : Nat} {w : aW} {a : Nat} (h : aI w tm) (ha : a < aN w) : aI (aBelow (aStop 13) w a) tm ∧ ∀ c, c < aN w → aF w c 0 = nI a → ¬ aF (aBelow (aStop 13) w a) c 5 = nI 1 := by
  have hN := h.n12
  exact aI_belowN (n := 13) (aM_stop 13) (aI_stop 13) (by omega) (aN w) w h (Nat.le_refl _) (by omega)
theorem aM_restart {w : aW} {a : Nat} : aM w (aRestart w a) := by
  refine aM.trans (aM_below 13 w a) (aM.trans (b := uF (aBelow (aStop 13) w a) a 6 (nI 0)) ⟨rfl, fun b f hf => ?_, fun b => Or.inl ?_, fun _ _ => rfl, fun _ => Or.inl rfl, rfl, rfl⟩ (aM.trans aM_forget aM_back))
  · rw [uF_F, if_neg (by omega)]
  · rw [uF_F, if_neg (by omega)]
theorem aI_restart {w : aW} {tm a : Nat} (h : aI w tm) (ha : a < aN w) : aI (aRestart w a) tm := aI_back (aI_forget (aI_below h ha).1.setF6)
theorem aI9_0 (w : aW) : aI9 w 0 := fun _ _ h => absurd h (Nat.not_lt_zero _)
/-- a failure is noted -/
theorem nOk_kept {tm : Nat} {xs : List (Int32 × Int32)} {p : Int32 × Int32 → Bool} (h : nOk tm xs) (ht : tm < 2 ^ 30) : nOk tm (xs.filter p ++ [(nI tm, nI 0)]) := by
  refine ⟨fun q hq => ?_, ?_⟩
  · rcases List.mem_append.mp hq with z | z
    · exact h.1 q (List.mem_filter.mp z).1
    · rw [List.mem_singleton.mp z]; exact ⟨tm, Nat.le_refl _, rfl⟩
  · refine List.pairwise_append.mpr ⟨h.2.filter _, List.pairwise_singleton _ _, fun x hx y hy => ?_⟩
    rw [List.mem_singleton.mp hy]
    obtain ⟨k, hk, e⟩ := h.1 x (List.mem_filter.mp hx).1
    rw [e, nI_toInt (by omega), nI_toInt (by omega)]
    omega
theorem aI_note {w : aW} {tm p : Nat} (h : aI w tm) (hp : p < aN w) (hl : aF w p 5 = nI 1) (h9 : (aL w p 4).length ≤ 9) : aI (aNote w p) tm := by
  unfold aNote
  refine h.setL fun ha => (h.act ha).set4 ?_ ?_ (fun q => by rw [hl] at q; exact absurd q (by decide))
  · rw [List.length_append]
    have := List.length_filter_le (fun q : Int32 × Int32 => decide (¬ q.1 < aG w 0 - aF w p 4)) (aL w p 4)
    unfold aKept
    simp only [List.length_cons, List.length_nil]
    omega
  · unfold aKept
    rw [h.2.2.2.1.1]
    exact nOk_kept (h.act hp).2.2.2.2.2.1.2 h.2.2.2.1.2.1
/-- as aM, but for the rows of those noted -/
def aMn (w w' : aW) : Prop := aN w' = aN w ∧ (∀ a f, aF w' a f = aF w a f) ∧ (∀ i, aG w' i = aG w i) ∧ (∀ a k, k ≠ 4 → aL w' a k = aL w a k) ∧ aT w' = aT w ∧ aO w' = aO w ∧ aC w' = aC w
theorem aMn.rf (w : aW) : aMn w w := ⟨rfl, fun _ _ => rfl, fun _ => rfl, fun _ _ _ => rfl, rfl, rfl, rfl⟩
theorem aMn.trans {a b c : aW} (h : aMn a b) (k : aMn b c) : aMn a c := ⟨k.1.trans h.1, fun x f => (k.2.1 x f).trans (h.2.1 x f), fun i => (k.2.2.1 i).trans (h.2.2.1 i), fun x y q => (k.2.2.2.1 x y q).trans (h.2.2.2.1 x y q), k.2.2.2.2.1.trans h.2.2.2.2.1, k.2.2.2.2.2.1.trans h.2.2.2.2.2.1, k.2.2.2.2.2.2.trans h.2.2.2.2.2.2⟩
theorem aMn_note {w : aW} {p : Nat} : aMn w (aNote w p) := ⟨rfl, fun _ _ => rfl, fun _ => rfl, fun a k hk => by
  show aL (uL w p 4 _) a k = _
  rw [uL_L, if_neg (fun q => hk q.2)], rfl, rfl, rfl⟩
theorem aI.parN {w : aW} {tm a : Nat} (h : aI w tm) (ha : a < aN w) (hp : ¬ aF w a 0 < 0) : aPar w a < a ∧ aF w a 0 = nI (aPar w a) := by
  have hN := h.n12
  rcases h.par ha with q | ⟨p, hq, q⟩
  · rw [q.2] at hp
    exact absurd (by decide) hp
  · unfold aPar
    rw [q, nI_clamp (by omega)]
    exact ⟨hq, rfl⟩
/-- those with more than nine noted are 'one' and some below it -/
def chn (w : aW) (one : Nat) : Prop := ∃ S : Nat → Prop, S one ∧ (∀ x, S x → x = one ∨ ∃ y, y < x ∧ aF w x 0 = nI y ∧ S y) ∧ ∀ x, x < aN w → 9 < (aL w x 4).length → S x
theorem aI.budget {w : aW} {tm a : Nat} (h : aI w tm) (ha : a < aN w) : ∃ x, x ≤ 9 ∧ aF w a 3 = nI x := (h.act ha).1.2.2.2.1
theorem aNote_L {w : aW} {p x : Nat} : aL (aNote w p) x 4 = if x = p then aKept w p ++ [(aG w 0, nI 0)] else aL w x 4 := by
  show aL (uL w p 4 _) x 4 = _
  rw [uL_L]
  by_cases c : x = p
  · rw [if_pos ⟨c, rfl⟩, if_pos c]
  · rw [if_neg (fun q => c q.1), if_neg c]
theorem aKept_le {w : aW} {p : Nat} : (aKept w p).length ≤ (aL w p 4).length := List.length_filter_le _ _
/-- up: 'one' is where all ends -/
theorem aI_climb {tm : Nat} : ∀ (n : Nat) (w : aW) (one : Nat) (ch : List (Int32 × Int32)), aI w tm → one < aN w → aF w one 5 = nI 1 → one < n → aI9 w one → chn w one →
    aI (aClimb n w one ch).1 tm ∧ aMn w (aClimb n w one ch).1 ∧ (aClimb n w one ch).2.1 ≤ one ∧ aF w (aClimb n w one ch).2.1 5 = nI 1 ∧ chn (aClimb n w one ch).1 (aClimb n w one ch).2.1 ∧ (aClimb n w one ch).2.2.length ≤ ch.length + (one - (aClimb n w one ch).2.1) := by
  intro n
  induction n with
  | zero => intro w one ch h ha hl hn; omega
  | succ n ih =>
    intro w one ch h ha hl hn h9 hc
    have hN := h.n12
    unfold aClimb
    by_cases c : aF w one 0 < 0
    · rw [if_pos c]
      exact ⟨h, aMn.rf w, Nat.le_refl _, hl, hc, Nat.le_add_right _ _⟩
    · rw [if_neg c]
      obtain ⟨hp, ep⟩ := h.parN ha c
      have lp : aF w (aPar w one) 5 = nI 1 := h.2.2.1 one ha _ hp ep hl
      have hk : (aL w (aPar w one) 4).length ≤ 9 := h9 _ (by omega) hp
      have h1 := aI_note h (p := aPar w one) (by omega) lp hk
      obtain ⟨b, hb, eb⟩ := h.budget (a := aPar w one) (by omega)
      obtain ⟨S, s1, s2, s3⟩ := hc
      by_cases o : aF w (aPar w one) 3 < nI ((aKept w (aPar w one)).length + 1)
      · rw [if_pos o]
        obtain ⟨r1, r2, r3, r4, r5, r6⟩ := ih (aNote w (aPar w one)) (aPar w one) ((nI (aPar w one), nI 9) :: ch) h1 (by rw [aMn_note.1]; omega) (by rw [aMn_note.2.1]; exact lp) (by omega) (fun x hx hn => by
          rw [aNote_L, if_neg (by omega)]
          exact h9 x hx (by omega)) ⟨fun x => S x ∨ x = aPar w one, Or.inr rfl, fun x hx => by
            rcases hx with hx | hx
            · rcases s2 x hx with e | ⟨y, y1, y2, y3⟩
              · exact Or.inr ⟨aPar w one, by rw [e]; exact hp, by rw [aMn_note.2.1, e]; exact ep, Or.inr rfl⟩
              · exact Or.inr ⟨y, y1, by rw [aMn_note.2.1]; exact y2, Or.inl y3⟩
            · exact Or.inl hx, fun x hx hg => by
            rw [aNote_L] at hg
            by_cases cx : x = aPar w one
            · exact Or.inr cx
            · rw [if_neg cx] at hg
              exact Or.inl (s3 x hx hg)⟩
        rw [aMn_note.2.1] at r4
        refine ⟨r1, aMn.trans aMn_note r2, by omega, r4, r5, ?_⟩
        simp only [List.length_cons] at r6
        omega
      · rw [if_neg o]
        refine ⟨h1, aMn_note, Nat.le_refl _, hl, ⟨S, s1, fun x hx => ?_, fun x hx hg => ?_⟩, Nat.le_add_right _ _⟩
        · rw [aMn_note.2.1]
          exact s2 x hx
        · rw [aNote_L] at hg
          by_cases cx : x = aPar w one
          · rw [if_pos cx, List.length_append] at hg
            simp only [List.length_cons, List.length_nil] at hg
            have := aKept_le (w := w) (p := aPar w one)
            rw [eb, nI_ltI (by omega) (by omega)] at o
            omega
          · rw [if_neg cx] at hg
            exact s3 x hx hg
/-- only what is below stops -/
theorem out_belowN {f : aW → Nat → aW} (hm : ∀ w a, aM w (f w a)) {T : Nat → Prop} {a N0 : Nat} {F0 : Nat → Int32} (hf : ∀ w c, aN w = N0 → (∀ x, aF w x 0 = F0 x) → T c → ∀ x, ¬ T x → aF (f w c) x 5 = aF w x 5) (hT : ∀ y, y < N0 → F0 y = nI a → T y) : ∀ (i : Nat) (w : aW), i ≤ N0 → aN w = N0 → (∀ x, aF w x 0 = F0 x) → ∀ x, ¬ T x → aF (aBelowN f a i w) x 5 = aF w x 5 := by
  intro i
  induction i with
  | zero => exact fun w _ _ _ x _ => rfl
  | succ i ih =>
    intro w hi hN hF x hx
    unfold aBelowN
    by_cases c : aF w i 0 = nI a ∧ aF w i 5 = nI 1
    · rw [if_pos c, ih (f w i) (by omega) ((hm w i).1.trans hN) (fun y => by rw [(hm w i).2.1 y 0 (by decide)]; exact hF y) x hx]
      exact hf w i hN hF (hT i (by omega) (by rw [← hF]; exact c.1)) x hx
    · rw [if_neg c]
      exact ih w (by omega) hN hF x hx
theorem told_live {m : Int32 × Int32} : ∀ (ws : List (Int32 × Int32)) (w : aW) (x : Nat), aF (aTold m ws w) x 5 = aF w x 5 := by
  intro ws
  induction ws with
  | nil => exact fun _ _ => rfl
  | cons q ws ih =>
    intro w x
    show aF (aTold m ws (aSends w q.1.toNatClampNeg m).2) x 5 = _
    rw [ih]
    unfold aSends
    split <;> rfl
theorem gone_live {w : aW} {a x : Nat} (h : x ≠ a) : aF (aGone w a) x 5 = aF w x 5 := by
  unfold aGone
  rw [told_live]
  show aF (uF w a 5 (nI 0)) x 5 = _
  rw [uF_F, if_neg (fun q => h q.1)]
theorem out_stop {T : Nat → Prop} {F0 : Nat → Int32} {N0 : Nat} (hT : ∀ y z, y < N0 → T z → F0 y = nI z → T y) : ∀ (n : Nat) (w : aW) (c : Nat), aN w = N0 → (∀ x, aF w x 0 = F0 x) → T c → ∀ x, ¬ T x → aF (aStop n w c) x 5 = aF w x 5 := by
  intro n
  induction n with
  | zero => exact fun _ _ _ _ _ _ _ => rfl
  | succ n ih =>
    intro w c hN hF hc x hx
    show aF (aGone (aBelow (aStop n) w c) c) x 5 = _
    rw [gone_live (fun q => hx (by rw [q]; exact hc))]
    exact out_belowN (N0 := N0) (aM_stop n) (fun w d hN hF hd => ih w d hN hF hd) (fun y hy e => hT y c hy hc e) (aN w) w (by omega) hN hF x hx
theorem restart_live {w : aW} {a x : Nat} : aF (aRestart w a) x 5 = aF (aBelow (aStop 13) w a) x 5 := by
  show aF (uF (aBelow (aStop 13) w a) a 6 (nI 0)) x 5 = _
  rw [uF_F, if_neg (by omega)]
theorem restart_none {w : aW} {a : Nat} : aL (aRestart w a) a 4 = [] := by
  show aL (uL (uL (aForget _ a) a 1 _) a 2 []) a 4 = []
  rw [uL_L, uL_L, if_neg (by omega), if_neg (by omega)]
  show aL (uL (uL _ a 0 _) a 4 []) a 4 = []
  rw [uL_L, if_pos ⟨rfl, rfl⟩]
theorem aM_restN {p one : Nat} {st : Int32} : ∀ (k i : Nat) (w : aW) (b : Int32), aM w (aRestN p one st k i w b).1 := by
  intro k
  induction k with
  | zero => exact fun _ w _ => aM.rf w
  | succ k ih =>
    intro i w b
    unfold aRestN
    split
    · exact aM.trans aM_restart (ih _ _ _)
    · exact ih _ _ _
theorem aI_restN {tm p one : Nat} {st : Int32} (hp : p < 12) : ∀ (k i : Nat) (w : aW) (b : Int32), aI w tm → i + k = aN w → aI (aRestN p one st k i w b).1 tm ∧ (i ≤ one → one < i + k → aF w one 0 = nI p → aF w one 5 = nI 1 → aL (aRestN p one st k i w b).1 one 4 = [] ∧ ∀ c, c < aN w → aF w c 0 = nI one → ¬ aF (aRestN p one st k i w b).1 c 5 = nI 1) := by
  intro k
  induction k with
  | zero => exact fun i w b h _ => ⟨h, fun h1 h2 => by omega⟩
  | succ k ih =>
    intro i w b h hi
    have hN := h.n12
    unfold aRestN
    by_cases c : (i = one ∨ st = nI 1 ∨ (st = nI 2 ∧ one < i)) ∧ aF w i 0 = nI p ∧ aF w i 5 = nI 1
    · rw [if_pos c]
      have h1 := aI_restart (a := i) h (by omega)
      have m1 : aM w (aRestart w i) := aM_restart
      obtain ⟨r1, r2⟩ := ih (i + 1) (aRestart w i) (b ||| ishl32 (nI 1) (nI i)) h1 (by rw [m1.1]; omega)
      refine ⟨r1, fun q1 q2 q3 q4 => ?_⟩
      by_cases e : i = one
      · subst e
        have m2 := aM_restN (p := p) (one := i) (st := st) k (i + 1) (aRestart w i) (b ||| ishl32 (nI 1) (nI i))
        refine ⟨?_, fun d hd e0 e5 => ?_⟩
        · rcases m2.2.2.2.2.1 i with z | z
          · rw [z]; exact restart_none
          · exact z
        · have := m2.live e5
          rw [restart_live] at this
          exact (aI_below h (a := i) (by omega)).2 d hd e0 this
      · have hip : p < i := h.child (by omega) (by omega) c.2.1
        have hl : aF (aRestart w i) one 5 = nI 1 := by
          rw [restart_live]
          have hT : ∀ y z, y < aN w → (z ≠ one ∧ p < z ∧ z < aN w) → aF w y 0 = nI z → (y ≠ one ∧ p < y ∧ y < aN w) := fun y z hy hz e => by
            have h5 := h.child hy (by omega) e
            refine ⟨fun q => ?_, by omega, hy⟩
            rw [q, q3] at e
            have := nI_inj (by omega) (by omega) e
            omega
          have := out_belowN (T := fun x => x ≠ one ∧ p < x ∧ x < aN w) (a := i) (N0 := aN w) (F0 := fun x => aF w x 0) (aM_stop 13) (fun w' d hN' hF' hd => out_stop (N0 := aN w) hT 13 w' d hN' hF' hd) (fun y hy e5 => hT y i hy ⟨e, hip, by omega⟩ e5) (aN w) w (Nat.le_refl _) rfl (fun _ => rfl) one (fun q => q.1 rfl)
          show aF (aBelowN (aStop 13) i (aN w) w) one 5 = nI 1
          rw [this]
          exact q4
        obtain ⟨r3, r4⟩ := r2 (by omega) (by omega) (by rw [m1.2.1 one 0 (by decide)]; exact q3) hl
        exact ⟨r3, fun d hd e0 => r4 d (by rw [m1.1]; exact hd) (by rw [m1.2.1 d 0 (by decide)]; exact e0)⟩
    · rw [if_neg c]
      obtain ⟨r1, r2⟩ := ih (i + 1) w b h (by omega)
      refine ⟨r1, fun q1 q2 q3 q4 => ?_⟩
      by_cases e : i = one
      · exact absurd ⟨Or.inl e, by rw [e]; exact q3, by rw [e]; exact q4⟩ c
      · exact r2 (by omega) (by omega) q3 q4
theorem chn_done {w w' : aW} {tm one : Nat} (h : aI w' tm) (hN : aN w' = aN w) (hF : ∀ a f, f < 5 → aF w' a f = aF w a f) (hc : chn w one) (h4 : ∀ x, aL w' x 4 = aL w x 4 ∨ aL w' x 4 = []) (h1 : (aL w' one 4).length ≤ 9) (hd : ∀ c, c < aN w → aF w c 0 = nI one → ¬ aF w' c 5 = nI 1) (n : Nat) : aI9 w' n := by
  obtain ⟨S, s1, s2, s3⟩ := hc
  have dead : ∀ x, S x → x < aN w → x ≠ one → ¬ aF w' x 5 = nI 1 := by
    intro x
    induction x using Nat.strongRecOn with
    | ind x ih =>
      intro hx hxn hne hl
      rcases s2 x hx with e | ⟨y, y1, y2, y3⟩
      · exact hne e
      · by_cases c : y = one
        · rw [c] at y2
          exact hd x hxn y2 hl
        · exact ih y y1 y3 (by omega) c (h.2.2.1 x (by rw [hN]; exact hxn) y y1 (by rw [hF x 0 (by decide)]; exact y2) hl)
  intro x hx _
  rw [hN] at hx
  by_cases hg : 9 < (aL w x 4).length
  · have hS := s3 x hx hg
    by_cases c : x = one
    · rw [c]; exact h1
    · have := dead x hS hx c
      rcases h.live (a := x) (by rw [hN]; exact hx) with e | e
      · rw [((h.act (a := x) (by rw [hN]; exact hx)).2.2.2.2.2.2 e).2.2]
        exact Nat.zero_le _
      · exact absurd e this
  · rcases h4 x with e | e
    · rw [e]; omega
    · rw [e]; exact Nat.zero_le _
/-- what a failure leaves: as aM, the causes and the rows of those noted apart -/
def aMf (w w' : aW) : Prop := aN w' = aN w ∧ (∀ a f, f < 5 → aF w' a f = aF w a f) ∧ (∀ a, aF w' a 5 = aF w a 5 ∨ aF w' a 5 = nI 0) ∧ (∀ i, i ≠ 2 → aG w' i = aG w i) ∧ aO w' = aO w
theorem aMf.rf (w : aW) : aMf w w := ⟨rfl, fun _ _ _ => rfl, fun _ => Or.inl rfl, fun _ _ => rfl, rfl⟩
theorem aMf.trans {a b c : aW} (h : aMf a b) (k : aMf b c) : aMf a c := by
  obtain ⟨h1, h2, h3, h4, h6⟩ := h
  obtain ⟨k1, k2, k3, k4, k6⟩ := k
  refine ⟨k1.trans h1, fun x f hf => (k2 x f hf).trans (h2 x f hf), fun x => ?_, fun i hi => (k4 i hi).trans (h4 i hi), k6.trans h6⟩
  rcases k3 x with e | e
  · rw [e]; exact h3 x
  · exact Or.inr e
theorem aM.f {w w' : aW} (h : aM w w') : aMf w w' := ⟨h.1, h.2.1, h.2.2.1, h.2.2.2.1, h.2.2.2.2.2.1⟩
theorem aMn.f {w w' : aW} (h : aMn w w') : aMf w w' := ⟨h.1, fun a f _ => h.2.1 a f, fun a => Or.inl (h.2.1 a 5), fun i _ => h.2.2.1 i, h.2.2.2.2.2.1⟩
theorem aI_failsO {w : aW} {tm one : Nat} {b : Int32} (h : aI w tm) (ha : one < aN w) (hl : aF w one 5 = nI 1) (hc : chn w one) : aI (aFailsO w one b).1 tm ∧ aI9 (aFailsO w one b).1 12 ∧ aM w (aFailsO w one b).1 := by
  have hN := h.n12
  unfold aFailsO
  by_cases c : aF w one 0 < 0
  · rw [if_pos c]
    obtain ⟨h1, h2⟩ := aI_stop 13 w one h ha (by omega)
    have m := aM_stop 13 w one
    refine ⟨h1, chn_done h1 m.1 m.2.1 hc m.2.2.2.2.1 ?_ (fun d hd e0 e5 => ?_) 12, m⟩
    · rw [((h1.act (a := one) (by rw [m.1]; exact ha)).2.2.2.2.2.2 h2).2.2]
      exact Nat.zero_le _
    · have := h1.2.2.1 d (by rw [m.1]; exact hd) one (h.child hd (by omega) e0) (by rw [m.2.1 d 0 (by decide)]; exact e0) e5
      rw [h2] at this
      exact absurd this (by decide)
  · rw [if_neg c]
    obtain ⟨hp, ep⟩ := h.parN ha c
    obtain ⟨h1, h2⟩ := aI_restN (one := one) (st := aF w (aPar w one) 2) (p := aPar w one) (by omega) (aN w) 0 w b h (by omega)
    have m := aM_restN (p := aPar w one) (one := one) (st := aF w (aPar w one) 2) (aN w) 0 w b
    obtain ⟨h3, h4⟩ := h2 (Nat.zero_le _) (by omega) ep hl
    refine ⟨h1, chn_done h1 m.1 m.2.1 hc m.2.2.2.2.1 (by rw [h3]; exact Nat.zero_le _) h4 12, m⟩
theorem aI_fails {w : aW} {tm a : Nat} {why b : Int32} (h : aI w tm) (h9 : aI9 w 12) (ha : a < aN w) (hl : aF w a 5 = nI 1) : aI (aFails w a why b).1 tm ∧ aI9 (aFails w a why b).1 12 ∧ aMf w (aFails w a why b).1 := by
  have hN := h.n12
  obtain ⟨r1, r2, r3, r4, r5, r6⟩ := aI_climb 13 w a [(nI a, why)] h ha hl (by omega) (fun x hx hn => h9 x hx (by omega)) ⟨fun x => x = a, rfl, fun x hx => Or.inl hx, fun x hx hg => by
    have := h9 x hx (by omega)
    omega⟩
  simp only [List.length_cons, List.length_nil] at r6
  have h2 : aI (uC (aClimb 13 w a [(nI a, why)]).1 (aClimb 13 w a [(nI a, why)]).2.2) tm := r1.setC (by omega)
  obtain ⟨k1, k2, k3⟩ := aI_failsO (b := b) h2 (by show _ < aN (aClimb 13 w a [(nI a, why)]).1; rw [r2.1]; omega) (by show aF (aClimb 13 w a [(nI a, why)]).1 _ 5 = _; rw [r2.2.1]; exact r4) r5
  refine ⟨k1, k2, aMf.trans r2.f (aMf.trans (b := uC (aClimb 13 w a [(nI a, why)]).1 (aClimb 13 w a [(nI a, why)]).2.2) ⟨rfl, fun _ _ _ => rfl, fun _ => Or.inl rfl, fun _ _ => rfl, rfl⟩ k3.f)⟩
end INV
