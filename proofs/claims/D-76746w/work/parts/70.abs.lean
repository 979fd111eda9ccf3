/-! THE PLAIN LAW. A function's end: it ends, and so -/
def Ok {S α : Type} (f : Option (α × S)) (Q : α → S → Prop) : Prop := ∃ r s, f = some (r, s) ∧ Q r s
section OKS
variable {S T α β γ : Type}
theorem ok_some {r : α} {s : S} {Q : α → S → Prop} (h : Q r s) : Ok (some (r, s)) Q := ⟨r, s, rfl, h⟩
theorem ok_mono {f : Option (α × S)} {P Q : α → S → Prop} (h : Ok f P) (k : ∀ r s, P r s → Q r s) : Ok f Q := by
  obtain ⟨r, s, h1, h2⟩ := h
  exact ⟨r, s, h1, k r s h2⟩
theorem ok_ob {f : Option (α × S)} {K : α → S → Option (β × T)} {P : α → S → Prop} {Q : β → T → Prop} (h : Ok f P) (k : ∀ r s, P r s → Ok (K r s) Q) : Ok (ob f K) Q := by
  obtain ⟨r, s, h1, h2⟩ := h
  rw [h1]
  exact k r s h2
theorem ok_obE {f : Option (α × S)} {K : α → S → Option (β × T)} {r : α} {s : S} {Q : β → T → Prop} (h : f = some (r, s)) (k : Ok (K r s) Q) : Ok (ob f K) Q := by
  rw [h]
  exact k
theorem ok_obx {f : Option ((α ⊕ Nat) × S)} {K : α → S → Option (β × T)} {X : Nat → S → Option (β × T)} {P : α ⊕ Nat → S → Prop} {Q : β → T → Prop} (h : Ok f P) (k : ∀ r s, P (.inl r) s → Ok (K r s) Q) (x : ∀ e s, P (.inr e) s → Ok (X e s) Q) : Ok (obx f K X) Q := by
  obtain ⟨r, s, h1, h2⟩ := h
  rw [h1]
  cases r with
  | inl a => exact k a s h2
  | inr e => exact x e s h2
theorem ok_letv {x : γ} {K : γ → Option (α × S)} {Q : α → S → Prop} (k : Ok (K x) Q) : Ok (letv x K) Q := k
theorem ok_jn {J : Type} {f : J} {g : J → Option (α × S)} {Q : α → S → Prop} (k : Ok (g f) Q) : Ok (jn f g) Q := k
theorem ok_gd {c : Prop} [Decidable c] {f : Option (α × S)} {Q : α → S → Prop} (h : c) (k : Ok f Q) : Ok (gd c f) Q := by
  rw [gd_t h]
  exact k
theorem ok_rv {x : Option γ} {a : γ} {K : γ → Option (α × S)} {Q : α → S → Prop} (h : x = some a) (k : Ok (K a) Q) : Ok (rv x K) Q := by
  rw [h]
  exact k
theorem ok_ift {c : Prop} [Decidable c] {f g : Option (α × S)} {Q : α → S → Prop} (h : c) (k : Ok f Q) : Ok (if c then f else g) Q := by
  rw [if_pos h]
  exact k
theorem ok_iff {c : Prop} [Decidable c] {f g : Option (α × S)} {Q : α → S → Prop} (h : ¬ c) (k : Ok g Q) : Ok (if c then f else g) Q := by
  rw [if_neg h]
  exact k
theorem ok_ite {c : Prop} [Decidable c] {f g : Option (α × S)} {Q : α → S → Prop} (h : c → Ok f Q) (k : ¬ c → Ok g Q) : Ok (if c then f else g) Q := by
  by_cases x : c
  · rw [if_pos x]; exact h x
  · rw [if_neg x]; exact k x
theorem ok_onulN {A : Option (α × S)} {B : Nat → Option (α × S)} {x : Option Nat} {Q : α → S → Prop} (h : x = none) (k : Ok A Q) : Ok (onul x A B) Q := by
  rw [h]
  exact k
theorem ok_onulS {A : Option (α × S)} {B : Nat → Option (α × S)} {x : Option Nat} {a : Nat} {Q : α → S → Prop} (h : x = some a) (k : Ok (B a) Q) : Ok (onul x A B) Q := by
  rw [h]
  exact k
end OKS
/-! THE WORLD. how many; actors' fields (0 parent, 1 own, 2 strategy, 3 budget, 4 window, 5 live, 6 count); actors' rows (0 stack, 1 mails, 2 stash, 3 watchers, 4 noted); the rest (0 time, 1 clock, 2 dead letters, 3 latest, 4 seed, 5 ended); timers as they were set (actor, due, n); log; causes -/
abbrev aW : Type := Nat × (Nat → Nat → Int32) × (Nat → Nat → List (Int32 × Int32)) × (Nat → Int32) × List (Int32 × Int32 × Int32) × List Int32 × List (Int32 × Int32)
abbrev aN (w : aW) : Nat := w.1
abbrev aF (w : aW) : Nat → Nat → Int32 := w.2.1
abbrev aL (w : aW) : Nat → Nat → List (Int32 × Int32) := w.2.2.1
abbrev aG (w : aW) : Nat → Int32 := w.2.2.2.1
abbrev aT (w : aW) : List (Int32 × Int32 × Int32) := w.2.2.2.2.1
abbrev aO (w : aW) : List Int32 := w.2.2.2.2.2.1
abbrev aC (w : aW) : List (Int32 × Int32) := w.2.2.2.2.2.2
def uF (w : aW) (a f : Nat) (x : Int32) : aW := (aN w, fun b g => if b = a ∧ g = f then x else aF w b g, aL w, aG w, aT w, aO w, aC w)
def uL (w : aW) (a k : Nat) (xs : List (Int32 × Int32)) : aW := (aN w, aF w, fun b j => if b = a ∧ j = k then xs else aL w b j, aG w, aT w, aO w, aC w)
def uG (w : aW) (i : Nat) (x : Int32) : aW := (aN w, aF w, aL w, fun j => if j = i then x else aG w j, aT w, aO w, aC w)
def uT (w : aW) (x : List (Int32 × Int32 × Int32)) : aW := (aN w, aF w, aL w, aG w, x, aO w, aC w)
def uO (w : aW) (x : List Int32) : aW := (aN w, aF w, aL w, aG w, aT w, x, aC w)
def uC (w : aW) (x : List (Int32 × Int32)) : aW := (aN w, aF w, aL w, aG w, aT w, aO w, x)
theorem uF_F (w : aW) (a f : Nat) (x : Int32) (b g : Nat) : aF (uF w a f x) b g = if b = a ∧ g = f then x else aF w b g := rfl
theorem uL_L (w : aW) (a k : Nat) (xs : List (Int32 × Int32)) (b j : Nat) : aL (uL w a k xs) b j = if b = a ∧ j = k then xs else aL w b j := rfl
theorem uG_G (w : aW) (i : Nat) (x : Int32) (j : Nat) : aG (uG w i x) j = if j = i then x else aG w j := rfl
theorem uF_N (w : aW) (a f : Nat) (x : Int32) : aN (uF w a f x) = aN w := rfl
theorem uF_L (w : aW) (a f : Nat) (x : Int32) : aL (uF w a f x) = aL w := rfl
theorem uF_G (w : aW) (a f : Nat) (x : Int32) : aG (uF w a f x) = aG w := rfl
theorem uF_T (w : aW) (a f : Nat) (x : Int32) : aT (uF w a f x) = aT w := rfl
theorem uF_O (w : aW) (a f : Nat) (x : Int32) : aO (uF w a f x) = aO w := rfl
theorem uF_C (w : aW) (a f : Nat) (x : Int32) : aC (uF w a f x) = aC w := rfl
theorem uL_N (w : aW) (a k : Nat) (x : List (Int32 × Int32)) : aN (uL w a k x) = aN w := rfl
theorem uL_F (w : aW) (a k : Nat) (x : List (Int32 × Int32)) : aF (uL w a k x) = aF w := rfl
theorem uL_G (w : aW) (a k : Nat) (x : List (Int32 × Int32)) : aG (uL w a k x) = aG w := rfl
theorem uL_T (w : aW) (a k : Nat) (x : List (Int32 × Int32)) : aT (uL w a k x) = aT w := rfl
theorem uL_O (w : aW) (a k : Nat) (x : List (Int32 × Int32)) : aO (uL w a k x) = aO w := rfl
theorem uL_C (w : aW) (a k : Nat) (x : List (Int32 × Int32)) : aC (uL w a k x) = aC w := rfl
theorem uG_N (w : aW) (i : Nat) (x : Int32) : aN (uG w i x) = aN w := rfl
theorem uG_F (w : aW) (i : Nat) (x : Int32) : aF (uG w i x) = aF w := rfl
theorem uG_L (w : aW) (i : Nat) (x : Int32) : aL (uG w i x) = aL w := rfl
theorem uG_T (w : aW) (i : Nat) (x : Int32) : aT (uG w i x) = aT w := rfl
theorem uG_O (w : aW) (i : Nat) (x : Int32) : aO (uG w i x) = aO w := rfl
theorem uG_C (w : aW) (i : Nat) (x : Int32) : aC (uG w i x) = aC w := rfl
/-- a message: from, n (1000 and x: the death of x) -/
def aSends (w : aW) (a : Nat) (m : Int32 × Int32) : Bool × aW := if aF w a 5 = nI 1 ∧ (aL w a 1).length < 12 then (true, uL w a 1 (aL w a 1 ++ [m])) else (false, uG w 2 (aG w 2 + nI 1))
/-- the stash comes back ahead of the mailbox, as much as has room -/
def aRoom (w : aW) (a : Nat) : Nat := min (aL w a 2).length (12 - (aL w a 1).length)
def aBack (w : aW) (a : Nat) : aW := uG (uL (uL w a 1 ((aL w a 2).take (aRoom w a) ++ aL w a 1)) a 2 []) 2 (aG w 2 + (nI (aL w a 2).length - nI (aRoom w a)))
def aForget (w : aW) (a : Nat) : aW := uT (uL (uL w a 0 ((aL w a 0).take 1)) a 4 []) ((aT w).filter fun t => !(t.1 == nI a))
def aUnw (w : aW) (a : Nat) : aW := (aN w, aF w, fun b k => if k = 3 ∧ b < aN w then (aL w b 3).filter (fun q => !(q.1 == nI a)) else aL w b k, aG w, aT w, aO w, aC w)
def aTold (m : Int32 × Int32) (ws : List (Int32 × Int32)) (w : aW) : aW := ws.foldl (fun w q => (aSends w q.1.toNatClampNeg m).2) w
/-- the live children of a, the greatest first -/
def aBelowN (f : aW → Nat → aW) (a : Nat) : Nat → aW → aW
  | 0, w => w
  | i + 1, w => aBelowN f a i (if aF w i 0 = nI a ∧ aF w i 5 = nI 1 then f w i else w)
def aBelow (f : aW → Nat → aW) (w : aW) (a : Nat) : aW := aBelowN f a (aN w) w
def aStopped (w : aW) (a : Nat) : aW := aUnw (aForget (uL (uL (uF w a 5 (nI 0)) a 1 []) a 2 []) a) a
def aGone (w : aW) (a : Nat) : aW := aTold (-1, nI 1000 + nI a) (aL (aStopped w a) a 3) (uL (aStopped w a) a 3 [])
def aStop : Nat → aW → Nat → aW
  | 0, w, _ => w
  | n + 1, w, a => aGone (aBelow (aStop n) w a) a
def aRestart (w : aW) (a : Nat) : aW := aBack (aForget (uF (aBelow (aStop 13) w a) a 6 (nI 0)) a) a
/-- a failure noted: those that count yet -/
def aKept (w : aW) (p : Nat) : List (Int32 × Int32) := (aL w p 4).filter fun q => decide (¬ q.1 < aG w 0 - aF w p 4)
def aNote (w : aW) (p : Nat) : aW := uL w p 4 (aKept w p ++ [(aG w 0, nI 0)])
def aOver (w : aW) (p : Nat) : Prop := aF w p 3 < nI ((aKept w p).length + 1)
def aPar (w : aW) (a : Nat) : Nat := (aF w a 0).toNatClampNeg
/-- up to the one in which all ends -/
def aClimb : Nat → aW → Nat → List (Int32 × Int32) → aW × Nat × List (Int32 × Int32)
  | 0, w, one, ch => (w, one, ch)
  | n + 1, w, one, ch => if aF w one 0 < 0 then (w, one, ch) else if aF w (aPar w one) 3 < nI ((aKept w (aPar w one)).length + 1) then aClimb n (aNote w (aPar w one)) (aPar w one) ((nI (aPar w one), nI 9) :: ch) else (aNote w (aPar w one), one, ch)
def aRule (st : Int32) (one c : Nat) : Prop := c = one ∨ st = nI 1 ∨ (st = nI 2 ∧ one < c)
/-- the children of p from i on, k of them -/
def aRestN (p one : Nat) (st : Int32) : Nat → Nat → aW → Int32 → aW × Int32
  | 0, _, w, b => (w, b)
  | k + 1, i, w, b => if (i = one ∨ st = nI 1 ∨ (st = nI 2 ∧ one < i)) ∧ aF w i 0 = nI p ∧ aF w i 5 = nI 1 then aRestN p one st k (i + 1) (aRestart w i) (b ||| ishl32 (nI 1) (nI i)) else aRestN p one st k (i + 1) w b
def aFailsO (w : aW) (one : Nat) (b : Int32) : aW × Int32 := if aF w one 0 < 0 then (aStop 13 w one, b) else aRestN (aPar w one) one (aF w (aPar w one) 2) (aN w) 0 w b
def aFails (w : aW) (a : Nat) (why b : Int32) : aW × Int32 := aFailsO (uC (aClimb 13 w a [(nI a, why)]).1 (aClimb 13 w a [(nI a, why)]).2.2) (aClimb 13 w a [(nI a, why)]).2.1 b
/-- n to the live children from i on, k of them; all, or the first -/
def aPass (a : Nat) (n : Int32) (all : Bool) : Nat → Nat → aW → aW
  | 0, _, w => w
  | k + 1, i, w => if aF w i 0 = nI a ∧ aF w i 5 = nI 1 then (if all then aPass a n all k (i + 1) (aSends w i (nI a, n)).2 else (aSends w i (nI a, n)).2) else aPass a n all k (i + 1) w
def aDoes (w : aW) (a : Nat) : Int32 := ((aL w a 0).getLast?.getD (0, 0)).1
def aWho (w : aW) (n : Int32) : Nat := (irm (if n < 0 then n + nI 99 else n) (nI (aN w))).toNatClampNeg
def aWatches (w : aW) (a : Nat) (n : Int32) : aW :=
  if aWho w n = a then w else if aF w (aWho w n) 5 = nI 1 then (if (aL w (aWho w n) 3).any (fun q => q.1 == nI a) then w else uL w (aWho w n) 3 (aL w (aWho w n) 3 ++ [(nI a, nI 0)])) else (aSends w a (-1, nI 1000 + nI (aWho w n))).2
/-- what one does with a message; why it failed (0: it didn't) -/
def aDeal (w : aW) (a : Nat) (m : Int32 × Int32) : aW × Int32 :=
  if ¬ m.2 < nI 1000 then (if aDoes w a = nI 5 then ((aFails w a (nI 2) 0).1, nI 2) else (uF w a 6 (aF w a 6 + nI 100 + m.2 - nI 1000), nI 0))
  else if aDoes w a = nI 0 then (uF w a 6 (aF w a 6 + m.2), nI 0)
  else if aDoes w a = nI 1 then (aPass a m.2 false (aN w) 0 w, nI 0)
  else if aDoes w a = nI 2 then (if 0 < m.2 ∧ ¬ m.1 < 0 then (aSends w m.1.toNatClampNeg (nI a, m.2 - nI 1)).2 else w, nI 0)
  else if aDoes w a = nI 3 then (if irm m.2 (nI 2) = 0 then (aBack w a, nI 0) else if (aL w a 2).length = 6 then ((aFails w a (nI 3) 0).1, nI 3) else (uL w a 2 (aL w a 2 ++ [m]), nI 0))
  else if aDoes w a = nI 4 then (if m.2 < 0 then (uL w a 0 (if 1 < (aL w a 0).length then (aL w a 0).dropLast else aL w a 0), nI 0) else if (aL w a 0).length = 5 then ((aFails w a (nI 4) 0).1, nI 4) else (uL w a 0 (aL w a 0 ++ [(irm m.2 (nI 10), nI 0)]), nI 0))
  else if aDoes w a = nI 5 then (if m.2 < aF w a 6 then ((aFails w a (nI 1) 0).1, nI 1) else (uF w a 6 m.2, nI 0))
  else if aDoes w a = nI 6 then (if 0 < m.2 ∧ (aT w).length < 10 then uT w (aT w ++ [(nI a, aG w 0 + nI 1 + irm m.2 (nI 8), m.2 - nI 1)]) else w, nI 0)
  else if aDoes w a = nI 7 then (aPass a m.2 true (aN w) 0 w, nI 0)
  else if aDoes w a = nI 8 then (aWatches w a m.2, nI 0)
  else (aStop 13 w a, nI 0)
def aCode (n : Int32) : Int32 := if n < nI 1000 then n else nI 200 + n - nI 1000
def aWord (a : Nat) (n : Int32) : Int32 := nI 1000 * nI a + aCode n + nI 300
def aLogged (w : aW) (x : Int32) : aW := uO w ((if (aO w).length = 30 then (aO w).drop 1 else aO w) ++ [x])
/-- clock, log, and so -/
def aDeals (w : aW) (a : Nat) (m : Int32 × Int32) : aW × Int32 := aDeal (aLogged (uG w 1 (aG w 1 + nI 1)) (aWord a m.2)) a m
/-- the next one that deals -/
def aReady (w : aW) (i : Nat) : Prop := i < aN w ∧ aF w i 5 = nI 1 ∧ aL w i 1 ≠ []
def aFrom (w : aW) : Nat := (aG w 3 + nI 1).toNatClampNeg
def aNextN (w : aW) : Nat → Nat → Option Nat
  | 0, _ => none
  | k + 1, i => if i % 12 < aN w ∧ aF w (i % 12) 5 = nI 1 ∧ aL w (i % 12) 1 ≠ [] then some (i % 12) else aNextN w k (i + 1)
def aNext (w : aW) : Option Nat := aNextN w 12 (aFrom w)
/-- the timer due first, of several the one set first -/
def aMin : List (Int32 × Int32 × Int32) → Nat
  | [] => 0
  | x :: l => if l.all (fun y => decide (¬ y.2.1 < x.2.1)) then 0 else aMin l + 1
def aHas (w : aW) : Prop := aNext w ≠ none ∨ aT w ≠ []
/-- a step: the world; why one failed (0: none did); what was dealt with -/
def aStep (w : aW) : aW × Int32 × Option Int32 := match aNext w with
  | some a => match aL w a 1 with
    | [] => (w, nI 0, none)
    | m :: l => ((aDeals (uG (uL w a 1 l) 3 (nI a)) a m).1, (aDeals (uG (uL w a 1 l) 3 (nI a)) a m).2, some (aWord a m.2))
  | none => match (aT w)[aMin (aT w)]? with
    | none => (w, nI 0, none)
    | some x => ((aSends (uG (uT w ((aT w).eraseIdx (aMin (aT w)))) 0 x.2.1) x.1.toNatClampNeg (-1, x.2.2)).2, nI 0, none)
/-- how a run ends now (0: not yet) -/
def aEnd (w : aW) : Int32 := if 0 < aN w ∧ ¬ aF w 0 5 = nI 1 then nI 2 else if aNext w = none ∧ aT w = [] then nI 1 else nI 0
def aRuns : Nat → aW → Nat × aW
  | 0, w => (0, w)
  | n + 1, w => if aEnd w = nI 0 then ((aRuns n (aStep w).1).1 + 1, (aRuns n (aStep w).1).2) else (0, w)
def aComes (w : aW) (p o s b d : Int32) : aW :=
  (aN w + 1, fun a f => if a = aN w then (match f with
    | 0 => p
    | 1 => o
    | 2 => s
    | 3 => b
    | 4 => d
    | 5 => nI 1
    | _ => nI 0) else aF w a f, fun a k => if a = aN w then (if k = 0 then [(o, nI 0)] else []) else aL w a k, aG w, aT w, aO w, aC w)
/-- whether such a one can be: 0; else the answer -/
def aBars (w : aW) (p o s b d : Int32) : Int32 :=
  if (¬ (p = -1 ∧ aN w = 0) ∧ (p < 0 ∨ ¬ p < nI (aN w))) ∨ (o < 0 ∨ nI 9 < o) ∨ (s < 0 ∨ nI 2 < s) ∨ (b < 0 ∨ nI 9 < b) ∨ (d < nI 1 ∨ nI 50 < d) then -1
  else if ¬ (p = -1 ∧ aN w = 0) ∧ ¬ aF w p.toNatClampNeg 5 = nI 1 then -5 else if aN w = 12 then -3 else 0
