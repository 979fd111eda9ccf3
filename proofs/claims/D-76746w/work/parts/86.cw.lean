/-! THE COMPONENT's world -/
section VAL
variable {α : Type}
/-- a message; a number; a timer -/
def Vm (t : cS) (x : Nat) (m : Int32 × Int32) : Prop := (cK t x = 6 ∧ cI t 43 x = m.1 ∧ cI t 44 x = m.2 ∧ m.2 < nI 1000) ∨ (cK t x = 9 ∧ cI t 43 x = -1 ∧ m.1 = -1 ∧ ∃ k, k < 12 ∧ cI t 50 x = nI k ∧ m.2 = nI 1000 + nI k)
def Vi (t : cS) (x : Nat) (v : Int32 × Int32) : Prop := cK t x = 17 ∧ cI t 69 x = v.1
def Vt (t : cS) (x : Nat) (v : Int32 × Int32 × Int32) : Prop := cK t x = 13 ∧ cI t 59 x = v.1 ∧ cI t 60 x = v.2.1 ∧ cI t 61 x = v.2.2
def Qv (P : Nat → Prop) (t : cS) (q : Nat) (most : Int32) (V : Nat → α → Prop) (xs : List α) : Prop := ∃ cs, Qr P t q most cs ∧ Al V (cs.map Prod.snd) xs
/-- values that stay where nothing of that kind changes -/
def Vst (V : cS → Nat → α → Prop) : Prop := ∀ (S : Nat → Prop) (t t' : cS) (x : Nat) (a : α), cWf t → Fr S t t' → V t x a → V t' x a
theorem Fr.immK {S : Nat → Prop} {t t' : cS} {x k : Nat} (f : Fr S t t') (hw : cWf t) (h : cK t x = k) (h0 : k ≠ 0) (hm : cMut k = false) : cEq t t' x := f.imm (hw.lt (by rw [h]; exact h0)) (by rw [h]; exact hm)
theorem Vm_st : Vst Vm := fun S t t' x m hw f h => by
  rcases h with ⟨h1, h2, h3, h4⟩ | ⟨h1, h2, h3, k, hk, h4, h5⟩
  · obtain ⟨e1, e2, e3, e4⟩ := f.immK hw h1 (by decide) rfl
    exact Or.inl ⟨e1.trans h1, (e3 43).trans h2, (e3 44).trans h3, h4⟩
  · obtain ⟨e1, e2, e3, e4⟩ := f.immK hw h1 (by decide) rfl
    exact Or.inr ⟨e1.trans h1, (e3 43).trans h2, h3, k, hk, (e3 50).trans h4, h5⟩
theorem Vi_st : Vst Vi := fun S t t' x m hw f h => by
  obtain ⟨e1, e2, e3, e4⟩ := f.immK hw h.1 (by decide) rfl
  exact ⟨e1.trans h.1, (e3 69).trans h.2⟩
theorem Vt_st : Vst Vt := fun S t t' x m hw f h => by
  obtain ⟨e1, e2, e3, e4⟩ := f.immK hw h.1 (by decide) rfl
  exact ⟨e1.trans h.1, (e3 59).trans h.2.1, (e3 60).trans h.2.2.1, (e3 61).trans h.2.2.2⟩
theorem Al.st {V : cS → Nat → α → Prop} (hV : Vst V) {S : Nat → Prop} {t t' : cS} (hw : cWf t) (f : Fr S t t') {l : List Nat} {xs : List α} (h : Al (V t) l xs) : Al (V t') l xs := h.mono (fun x a => hV S t t' x a hw f)
theorem Al.map {V : Nat → α → Prop} : ∀ {cs : List (Nat × Nat)} {xs : List α}, Al V (cs.map Prod.snd) xs ↔ Al (fun c x => V c.2 x) cs xs
  | [], [] => Iff.rfl
  | c :: cs, x :: xs => and_congr Iff.rfl Al.map
  | [], _ :: _ => Iff.rfl
  | _ :: _, [] => Iff.rfl
theorem Al.filter {β : Type} {V : β → α → Prop} {p : β → Bool} {f : α → Bool} : ∀ {cs : List β} {xs : List α}, Al V cs xs → (∀ c x, c ∈ cs → x ∈ xs → V c x → p c = f x) → Al V (cs.filter p) (xs.filter f)
  | [], [], _, _ => trivial
  | c :: cs, x :: xs, h, k => by
    have e := k c x List.mem_cons_self List.mem_cons_self h.1
    have r := Al.filter h.2 (fun c x hc hx => k c x (List.mem_cons_of_mem _ hc) (List.mem_cons_of_mem _ hx))
    cases hf : f x with
    | true =>
      rw [List.filter_cons_of_pos (by rw [e, hf]), List.filter_cons_of_pos hf]
      exact ⟨h.1, r⟩
    | false =>
      rw [List.filter_cons_of_neg (by rw [e, hf]; decide), List.filter_cons_of_neg (by rw [hf]; decide)]
      exact r
  | [], _ :: _, h, _ => h.elim
  | _ :: _, [], h, _ => h.elim
end VAL
section QVS
variable {α : Type} {P S : Nat → Prop} {t t' : cS} {q x : Nat} {most : Int32} {V : cS → Nat → α → Prop} {xs : List α}
/-- an object that is no queue, no cell changes -/
theorem Qv.frx (h : Qv P t q most (V t) xs) (hV : Vst V) (hw : cWf t) (f : Fr (fun y => y = x) t t') (hx : cK t x ≠ 3 ∧ cK t x ≠ 7) : Qv P t' q most (V t') xs := by
  obtain ⟨cs, h1, h2⟩ := h
  refine ⟨cs, h1.fr1 hw f (fun e => hx.1 ?_) (fun c hc e => hx.2 ?_), h2.st hV hw f⟩
  · rw [← e]; exact h1.1.1
  · rw [← e]; exact (h1.2.2.2.1.cell c hc).1
theorem Qv.frq {cs' : List (Nat × Nat)} {q' : Nat} {most' : Int32} {P' : Nat → Prop} (h : Qv P t q most (V t) xs) (hV : Vst V) (hw : cWf t) (h' : Qr P' t q' most' cs') (n : q ≠ q') (f : Fr (Qc q' cs') t t') : Qv P t' q most (V t') xs := by
  obtain ⟨cs, h1, h2⟩ := h
  exact ⟨cs, h1.fr2 hw h' n f, h2.st hV hw f⟩
theorem Qv.fr0 (h : Qv P t q most (V t) xs) (hV : Vst V) (hw : cWf t) (f : Fr (fun _ => False) t t') : Qv P t' q most (V t') xs := by
  obtain ⟨cs, h1, h2⟩ := h
  exact ⟨cs, h1.fr0 hw f, h2.st hV hw f⟩
/-- elsewhere -/
theorem Qv.frS (h : Qv P t q most (V t) xs) (hV : Vst V) (hw : cWf t) (f : Fr S t t') (n : ∀ y, P y → ¬ S y) : Qv P t' q most (V t') xs := by
  obtain ⟨cs, h1, h2⟩ := h
  exact ⟨cs, h1.fr1 hw f (n q h1.1.2.1) (fun c hc => n c.1 (h1.2.2.2.1.cell c hc).2.1), h2.st hV hw f⟩
theorem Qv.len (h : Qv P t q most (V t) xs) : cI t 24 q = nI xs.length := by
  obtain ⟨cs, h1, h2⟩ := h
  rw [h1.1.2.2.2, ← h2.len, List.length_map]
end QVS
/-- timers in the order in which they are due -/
def tIns (x : Int32 × Int32 × Int32) : List (Int32 × Int32 × Int32) → List (Int32 × Int32 × Int32)
  | [] => [x]
  | y :: l => if x.2.1 < y.2.1 then x :: y :: l else y :: tIns x l
def tSo (T : List (Int32 × Int32 × Int32)) : List (Int32 × Int32 × Int32) := T.foldl (fun l x => tIns x l) []
/-- the log goes round -/
def Lg (t : cS) (l n : Nat) (xs : List Int32) : Prop := xs.length = min n 30 ∧ ∀ k x, xs[k]? = some x → cI t (ei ((n - xs.length + k) % 30)) l = x
/-- a chain of failures -/
def Fc (t : cS) : List (Int32 × Int32) → Option Nat → Prop
  | [], p => p = none ∨ ∃ u, p = some u ∧ (cK t u = 11 ∨ cK t u = 12)
  | m :: l, p => ∃ e, p = some e ∧ (cK t e = 10 ∧ cI t 57 e = m.1 ∧ cI t 58 e = m.2 ∧ cR t 51 e ≠ some e) ∧ Fc t l (cR t 51 e)
theorem Fc.st {S : Nat → Prop} {t t' : cS} (hw : cWf t) (f : Fr S t t') : ∀ {l : List (Int32 × Int32)} {p : Option Nat}, Fc t l p → Fc t' l p
  | [], p, h => by
    rcases h with h | ⟨u, h1, h2⟩
    · exact Or.inl h
    · refine Or.inr ⟨u, h1, ?_⟩
      rcases h2 with h2 | h2
      · exact Or.inl ((f.immK hw h2 (by decide) rfl).1.trans h2)
      · exact Or.inr ((f.immK hw h2 (by decide) rfl).1.trans h2)
  | m :: l, p, ⟨e, h1, ⟨h2, h3, h4, h5⟩, h6⟩ => by
    obtain ⟨e1, e2, e3, e4⟩ := f.immK hw h2 (by decide) rfl
    refine ⟨e, h1, ⟨e1.trans h2, (e3 57).trans h3, (e3 58).trans h4, by rw [e4 51]; exact h5⟩, ?_⟩
    rw [e4 51]
    exact Fc.st hw f h6
/-- what is there from the start -/
def cG (t : cS) : Prop := (cK t 256 = 24 ∧ cL t 256 = 256 ∧ ∀ i, i < 256 → cR t (er i) 256 = some i ∧ cK t i = 17 ∧ cI t 69 i = nI i - nI 128) ∧ (cK t 260 = 30 ∧ cK t 261 = 31 ∧ cK t 262 = 32 ∧ cK t 266 = 36) ∧ cK t 259 = 99 ∧ 300 ≤ cn t
theorem cG.st {S : Nat → Prop} {t t' : cS} (h : cG t) (hw : cWf t) (f : Fr S t t') : cG t' := by
  obtain ⟨⟨h1, h2, h3⟩, ⟨h4, h5, h6, h7⟩, h8, h9⟩ := h
  obtain ⟨e1, e2, e3, e4⟩ := f.immK hw h1 (by decide) rfl
  refine ⟨⟨e1.trans h1, e2.trans h2, fun i hi => ?_⟩, ⟨(f.immK hw h4 (by decide) rfl).1.trans h4, (f.immK hw h5 (by decide) rfl).1.trans h5, (f.immK hw h6 (by decide) rfl).1.trans h6, (f.immK hw h7 (by decide) rfl).1.trans h7⟩, (f.immK hw h8 (by decide) rfl).1.trans h8, Nat.le_trans h9 f.1.1⟩
  obtain ⟨k1, k2, k3⟩ := h3 i hi
  obtain ⟨d1, d2, d3, d4⟩ := f.immK hw k2 (by decide) rfl
  exact ⟨(e4 _).trans k1, d1.trans k2, (d3 69).trans k3⟩
def sid (x : Int32) : Nat := if x = nI 0 then 260 else if x = nI 1 then 261 else 262
/-- an actor: its object, its stack, what it makes -/
def cA1 (P : Nat → Prop) (t : cS) (p i : Nat) (F : Nat → Int32) (n0 : Nat) : Prop :=
  (cK t p = 5 ∧ P p) ∧ (cI t 26 p = nI i ∧ cI t 27 p = F 0 ∧ cI t 28 p = F 1 ∧ cI t 29 p = F 2 ∧ cI t 31 p = F 3 ∧ cI t 32 p = F 4 ∧ cI t 33 p = F 5 ∧ cI t 34 p = F 6 ∧ cI t 36 p = nI n0) ∧
  (cR t 30 p = some (sid (F 2)) ∧ cR t 35 p = some (p + 1) ∧ cR t 37 p = some (p + 2) ∧ cR t 38 p = some (p + 3) ∧ cR t 39 p = some (p + 4) ∧ cR t 40 p = some (p + 5) ∧ cR t 41 p = some (p + 6) ∧ cR t 42 p = some (p + 7))
def cA2 (P : Nat → Prop) (t : cS) (p : Nat) (xs : List (Int32 × Int32)) : Prop := (cK t (p + 1) = 20 ∧ P (p + 1) ∧ cL t (p + 1) = 5) ∧ ∀ j q, xs[j]? = some q → cI t (ei j) (p + 1) = q.1
def cA3 (t : cS) (p i : Nat) : Prop := cK t (p + 6) = 33 ∧ cI t 900 (p + 6) = nI i ∧ cK t (p + 7) = 34 ∧ cI t 900 (p + 7) = nI i
def cA4 (P : Nat → Prop) (t : cS) (p : Nat) (L : Nat → List (Int32 × Int32)) : Prop := Qv P t (p + 2) (nI 12) (Vm t) (L 1) ∧ Qv P t (p + 3) (nI 6) (Vm t) (L 2) ∧ Qv P t (p + 4) (nI 12) (Vi t) (L 3) ∧ Qv P t (p + 5) (nI 2147483647) (Vi t) (L 4)
def cA (P : Nat → Prop) (t : cS) (p i : Nat) (F : Nat → Int32) (L : Nat → List (Int32 × Int32)) : Prop := cA1 P t p i F (L 0).length ∧ cA2 P t p (L 0) ∧ cA3 t p i ∧ cA4 P t p L
/-- the world's object; its actors; the log; the deeds -/
def cW1 (P : Nat → Prop) (t : cS) (w : Nat) (W : aW) : Prop :=
  (cK t w = 2 ∧ P w) ∧ (cI t 7 w = nI (aN W) ∧ cI t 8 w = aG W 3 ∧ cI t 9 w = aG W 1 ∧ cI t 10 w = aG W 0 ∧ cI t 11 w = aG W 2 ∧ cI t 13 w = aG W 4 ∧ cI t 15 w = aG W 1 ∧ cI t 19 w = aG W 5) ∧
  (cR t 6 w = some (w + 1) ∧ cR t 12 w = some (w + 2) ∧ cR t 14 w = some (w + 3) ∧ cR t 20 w = some (w + 4)) ∧ (Fc t (aC W) (cR t 16 w) ∧ (aC W = [] → cR t 16 w = none))
def cW2 (P : Nat → Prop) (t : cS) (w : Nat) (N : Nat) (A : Nat → Nat) : Prop := (cK t (w + 1) = 23 ∧ P (w + 1) ∧ cL t (w + 1) = 12) ∧ ∀ i, i < N → cR t (er i) (w + 1) = some (A i)
def cW3 (P : Nat → Prop) (t : cS) (w : Nat) (W : aW) : Prop := (cK t (w + 3) = 20 ∧ P (w + 3) ∧ cL t (w + 3) = 30) ∧ Lg t (w + 3) (aG W 1).toNatClampNeg (aO W)
def cW4 (t : cS) (w : Nat) : Prop := cK t (w + 4) = 4 ∧ cR t 25 (w + 4) = some w
def cSp (w N : Nat) (A : Nat → Nat) : Prop := N ≤ 12 ∧ (∀ i, i < N → w + 5 ≤ A i) ∧ ∀ i j, i < j → j < N → A i + 8 ≤ A j
def CW (P : Nat → Prop) (t : cS) (w : Nat) (A : Nat → Nat) (W : aW) : Prop :=
  (cWf t ∧ cG t ∧ ∀ y, cn t ≤ y → P y) ∧ cSp w (aN W) A ∧ cW1 P t w W ∧ cW2 P t w (aN W) A ∧ cW3 P t w W ∧ cW4 t w ∧ Qv P t (w + 2) (nI 10) (Vt t) (tSo (aT W)) ∧ ∀ i, i < aN W → cA P t (A i) i (aF W i) (aL W i)
section CWS
variable {P S : Nat → Prop} {t t' : cS} {w p i x : Nat} {A : Nat → Nat} {W W' : aW}
theorem CW.wf (h : CW P t w A W) : cWf t := h.1.1
theorem CW.g (h : CW P t w A W) : cG t := h.1.2.1
theorem CW.up (h : CW P t w A W) : ∀ y, cn t ≤ y → P y := h.1.2.2
theorem CW.sp (h : CW P t w A W) : cSp w (aN W) A := h.2.1
theorem CW.w1 (h : CW P t w A W) : cW1 P t w W := h.2.2.1
theorem CW.w2 (h : CW P t w A W) : cW2 P t w (aN W) A := h.2.2.2.1
theorem CW.w3 (h : CW P t w A W) : cW3 P t w W := h.2.2.2.2.1
theorem CW.w4 (h : CW P t w A W) : cW4 t w := h.2.2.2.2.2.1
theorem CW.tm (h : CW P t w A W) : Qv P t (w + 2) (nI 10) (Vt t) (tSo (aT W)) := h.2.2.2.2.2.2.1
theorem CW.act (h : CW P t w A W) (hi : i < aN W) : cA P t (A i) i (aF W i) (aL W i) := h.2.2.2.2.2.2.2 i hi
/-! what stays when something changes -/
theorem cA1.eq {F : Nat → Int32} {n : Nat} (h : cA1 P t p i F n) (e : cEq t t' p) : cA1 P t' p i F n := by
  obtain ⟨e1, e2, e3, e4⟩ := e
  unfold cA1 at h ⊢
  rw [e1, e3, e3, e3, e3, e3, e3, e3, e3, e3, e4, e4, e4, e4, e4, e4, e4, e4]
  exact h
theorem cA2.eq {xs : List (Int32 × Int32)} (h : cA2 P t p xs) (e : cEq t t' (p + 1)) : cA2 P t' p xs := by
  obtain ⟨e1, e2, e3, e4⟩ := e
  exact ⟨⟨e1.trans h.1.1, h.1.2.1, e2.trans h.1.2.2⟩, fun j q hq => (e3 _).trans (h.2 j q hq)⟩
theorem cA3.st (h : cA3 t p i) (hw : cWf t) (f : Fr S t t') : cA3 t' p i := by
  obtain ⟨h1, h2, h3, h4⟩ := h
  obtain ⟨e1, e2, e3, e4⟩ := f.immK hw h1 (by decide) rfl
  obtain ⟨d1, d2, d3, d4⟩ := f.immK hw h3 (by decide) rfl
  exact ⟨e1.trans h1, (e3 900).trans h2, d1.trans h3, (d3 900).trans h4⟩
theorem cW4.st (h : cW4 t w) (hw : cWf t) (f : Fr S t t') : cW4 t' w := by
  obtain ⟨h1, h2⟩ := h
  obtain ⟨e1, e2, e3, e4⟩ := f.immK hw h1 (by decide) rfl
  exact ⟨e1.trans h1, (e4 25).trans h2⟩
theorem cW1.eq (h : cW1 P t w W) (hw : cWf t) (f : Fr S t t') (e : cEq t t' w) : cW1 P t' w W := by
  obtain ⟨e1, e2, e3, e4⟩ := e
  obtain ⟨h1, h2, h3, h4, h5⟩ := h
  unfold cW1
  rw [e1, e3, e3, e3, e3, e3, e3, e3, e3, e4, e4, e4, e4, e4]
  exact ⟨h1, h2, h3, h4.st hw f, h5⟩
theorem cW2.eq {N : Nat} (h : cW2 P t w N A) (e : cEq t t' (w + 1)) : cW2 P t' w N A := by
  obtain ⟨e1, e2, e3, e4⟩ := e
  exact ⟨⟨e1.trans h.1.1, h.1.2.1, e2.trans h.1.2.2⟩, fun i hi => (e4 _).trans (h.2 i hi)⟩
theorem cW3.eq (h : cW3 P t w W) (e : cEq t t' (w + 3)) : cW3 P t' w W := by
  obtain ⟨e1, e2, e3, e4⟩ := e
  exact ⟨⟨e1.trans h.1.1, h.1.2.1, e2.trans h.1.2.2⟩, h.2.1, fun k x hx => (e3 _).trans (h.2.2 k x hx)⟩
theorem cA4.frx {L : Nat → List (Int32 × Int32)} (h : cA4 P t p L) (hw : cWf t) (f : Fr (fun y => y = x) t t') (hx : cK t x ≠ 3 ∧ cK t x ≠ 7) : cA4 P t' p L := ⟨h.1.frx Vm_st hw f hx, h.2.1.frx Vm_st hw f hx, h.2.2.1.frx Vi_st hw f hx, h.2.2.2.frx Vi_st hw f hx⟩
theorem CW.lt (h : CW P t w A W) {k : Nat} (hk : cK t x = k) (h0 : k ≠ 0) : x < cn t := h.wf.lt (by rw [hk]; exact h0)
/-- new things alone -/
theorem CW.fr0 (h : CW P t w A W) (f : Fr (fun _ => False) t t') : CW P t' w A W := by
  have hw := h.wf
  have eq : ∀ {x k : Nat}, cK t x = k → k ≠ 0 → cEq t t' x := fun hk h0 => f.eq (h.lt hk h0) (fun z => z)
  refine ⟨⟨f.1.2, h.g.st hw f, fun y hy => h.up y (Nat.le_trans f.1.1 hy)⟩, h.sp, h.w1.eq hw f (eq h.w1.1.1 (by decide)), h.w2.eq (eq h.w2.1.1 (by decide)), h.w3.eq (eq h.w3.1.1 (by decide)), h.w4.st hw f, h.tm.fr0 Vt_st hw f, fun i hi => ?_⟩
  obtain ⟨a1, a2, a3, a4⟩ := h.act hi
  exact ⟨a1.eq (eq a1.1.1 (by decide)), a2.eq (eq a2.1.1 (by decide)), a3.st hw f, a4.1.fr0 Vm_st hw f, a4.2.1.fr0 Vm_st hw f, a4.2.2.1.fr0 Vi_st hw f, a4.2.2.2.fr0 Vi_st hw f⟩
/-- elsewhere -/
theorem CW.frS (h : CW P t w A W) (f : Fr S t t') (n : ∀ y, P y → y < cn t → ¬ S y) : CW P t' w A W := by
  have hw := h.wf
  have eq : ∀ {x k : Nat}, cK t x = k → k ≠ 0 → P x → cEq t t' x := fun hk h0 hP => f.eq (h.lt hk h0) (n _ hP (h.lt hk h0))
  have g : Fr (fun y => ¬ (P y ∧ y < cn t)) t t' := f.mono (fun y _ z q => n y q.1 q.2 z)
  refine ⟨⟨f.1.2, h.g.st hw f, fun y hy => h.up y (Nat.le_trans f.1.1 hy)⟩, h.sp, h.w1.eq hw f (eq h.w1.1.1 (by decide) h.w1.1.2), h.w2.eq (eq h.w2.1.1 (by decide) h.w2.1.2.1), h.w3.eq (eq h.w3.1.1 (by decide) h.w3.1.2.1), h.w4.st hw f, ?_, fun i hi => ?_⟩
  · obtain ⟨cs, h1, h2⟩ := h.tm
    exact ⟨cs, h1.fr1 hw f (n _ h1.1.2.1 (h1.q_lt hw)) (fun c hc => n _ (h1.2.2.2.1.cell c hc).2.1 (h1.c_lt hw hc)), h2.st Vt_st hw f⟩
  · obtain ⟨a1, a2, a3, a4⟩ := h.act hi
    have fq : ∀ {q : Nat} {mo : Int32} {V : cS → Nat → Int32 × Int32 → Prop} {xs : List (Int32 × Int32)}, Vst V → Qv P t q mo (V t) xs → Qv P t' q mo (V t') xs := fun hV hq => by
      obtain ⟨cs, h1, h2⟩ := hq
      exact ⟨cs, h1.fr1 hw f (n _ h1.1.2.1 (h1.q_lt hw)) (fun c hc => n _ (h1.2.2.2.1.cell c hc).2.1 (h1.c_lt hw hc)), h2.st hV hw f⟩
    exact ⟨a1.eq (eq a1.1.1 (by decide) a1.1.2), a2.eq (eq a2.1.1 (by decide) a2.1.2.1), a3.st hw f, fq Vm_st a4.1, fq Vm_st a4.2.1, fq Vi_st a4.2.2.1, fq Vi_st a4.2.2.2⟩
/-- the world's object changes -/
theorem CW.frW (h : CW P t w A W) (f : Fr (fun y => y = w) t t') (n : aN W' = aN W ∧ aF W' = aF W ∧ aL W' = aL W ∧ aT W' = aT W ∧ aO W' = aO W ∧ aG W' 1 = aG W 1) (h1 : cW1 P t' w W') : CW P t' w A W' := by
  obtain ⟨nN, nF, nL, nT, nO, nC⟩ := n
  have hw := h.wf
  have hx : cK t w ≠ 3 ∧ cK t w ≠ 7 := by rw [h.w1.1.1]; decide
  have eq : ∀ {x k : Nat}, cK t x = k → k ≠ 0 → k ≠ 2 → cEq t t' x := fun hk h0 h2 => f.eq (h.lt hk h0) (fun z => h2 (by rw [← hk, z]; exact h.w1.1.1))
  refine ⟨⟨f.1.2, h.g.st hw f, fun y hy => h.up y (Nat.le_trans f.1.1 hy)⟩, by rw [nN]; exact h.sp, h1, by rw [nN]; exact h.w2.eq (eq h.w2.1.1 (by decide) (by decide)), ?_, h.w4.st hw f, by rw [nT]; exact h.tm.frx Vt_st hw f hx, fun i hi => ?_⟩
  · have := h.w3.eq (eq h.w3.1.1 (by decide) (by decide))
    unfold cW3 at this ⊢
    rw [nO, nC]
    exact this
  · rw [nN] at hi
    rw [nF, nL]
    obtain ⟨a1, a2, a3, a4⟩ := h.act hi
    exact ⟨a1.eq (eq a1.1.1 (by decide) (by decide)), a2.eq (eq a2.1.1 (by decide) (by decide)), a3.st hw f, a4.frx hw f hx⟩
/-- the i-th actor's object changes -/
theorem CW.frA (h : CW P t w A W) (hi : i < aN W) (f : Fr (fun y => y = A i) t t') (n : aN W' = aN W ∧ aG W' = aG W ∧ aT W' = aT W ∧ aO W' = aO W ∧ aC W' = aC W ∧ (∀ j, j ≠ i → aF W' j = aF W j ∧ aL W' j = aL W j) ∧ ∀ k, k ≠ 0 → aL W' i k = aL W i k) (h1 : cA1 P t' (A i) i (aF W' i) (aL W' i 0).length) (h2 : ∀ j q, (aL W' i 0)[j]? = some q → cI t (ei j) (A i + 1) = q.1) : CW P t' w A W' := by
  obtain ⟨nN, nG, nT, nO, nC, nO2, nI2⟩ := n
  have hw := h.wf
  have hA : cK t (A i) = 5 := (h.act hi).1.1.1
  have hx : cK t (A i) ≠ 3 ∧ cK t (A i) ≠ 7 := by rw [hA]; decide
  have eq : ∀ {x k : Nat}, cK t x = k → k ≠ 0 → x ≠ A i → cEq t t' x := fun hk h0 h2 => f.eq (h.lt hk h0) h2
  have ne : ∀ {x k : Nat}, cK t x = k → k ≠ 5 → x ≠ A i := fun hk h2 e => h2 (by rw [← hk, e]; exact hA)
  refine ⟨⟨f.1.2, h.g.st hw f, fun y hy => h.up y (Nat.le_trans f.1.1 hy)⟩, by rw [nN]; exact h.sp, ?_, by rw [nN]; exact h.w2.eq (eq h.w2.1.1 (by decide) (ne h.w2.1.1 (by decide))), ?_, h.w4.st hw f, by rw [nT]; exact h.tm.frx Vt_st hw f hx, fun j hj => ?_⟩
  · have := h.w1.eq hw f (eq h.w1.1.1 (by decide) (ne h.w1.1.1 (by decide)))
    unfold cW1 at this ⊢
    rw [nN, nG, nC]
    exact this
  · have := h.w3.eq (eq h.w3.1.1 (by decide) (ne h.w3.1.1 (by decide)))
    unfold cW3 at this ⊢
    rw [nO, nG]
    exact this
  · rw [nN] at hj
    by_cases c : j = i
    · subst c
      obtain ⟨a1, a2, a3, a4⟩ := h.act hj
      have a2' := a2.eq (eq a2.1.1 (by decide) (ne a2.1.1 (by decide)))
      obtain ⟨e1, e2, e3, e4⟩ := eq a2.1.1 (by decide) (ne a2.1.1 (by decide))
      refine ⟨h1, ⟨a2'.1, fun k q hq => (e3 _).trans (h2 k q hq)⟩, a3.st hw f, ?_⟩
      have := a4.frx hw f hx
      unfold cA4 at this ⊢
      rw [nI2 1 (by decide), nI2 2 (by decide), nI2 3 (by decide), nI2 4 (by decide)]
      exact this
    · rw [(nO2 j c).1, (nO2 j c).2]
      obtain ⟨a1, a2, a3, a4⟩ := h.act hj
      have nij : A j ≠ A i := fun e => by
        rcases Nat.lt_or_gt_of_ne c with z | z
        · have := h.sp.2.2 j i z hi
          omega
        · have := h.sp.2.2 i j z hj
          omega
      exact ⟨a1.eq (eq a1.1.1 (by decide) nij), a2.eq (eq a2.1.1 (by decide) (ne a2.1.1 (by decide))), a3.st hw f, a4.frx hw f hx⟩
/-- the i-th actor's stack changes -/
theorem CW.frK (h : CW P t w A W) (hi : i < aN W) (f : Fr (fun y => y = A i + 1) t t') (n : aN W' = aN W ∧ aG W' = aG W ∧ aT W' = aT W ∧ aO W' = aO W ∧ aC W' = aC W ∧ aF W' = aF W ∧ (∀ j, j ≠ i → aL W' j = aL W j) ∧ ∀ k, k ≠ 0 → aL W' i k = aL W i k) (h0 : (aL W' i 0).length = (aL W i 0).length) (hK : cK t' (A i + 1) = cK t (A i + 1) ∧ cL t' (A i + 1) = cL t (A i + 1)) (h2 : ∀ j q, (aL W' i 0)[j]? = some q → cI t' (ei j) (A i + 1) = q.1) : CW P t' w A W' := by
  obtain ⟨nN, nG, nT, nO, nC, nF, nO2, nI2⟩ := n
  have hw := h.wf
  have hA : cK t (A i + 1) = 20 := (h.act hi).2.1.1.1
  have hx : cK t (A i + 1) ≠ 3 ∧ cK t (A i + 1) ≠ 7 := by rw [hA]; decide
  have eq : ∀ {x k : Nat}, cK t x = k → k ≠ 0 → x ≠ A i + 1 → cEq t t' x := fun hk h0 h2 => f.eq (h.lt hk h0) h2
  have ne : ∀ {x k : Nat}, cK t x = k → k ≠ 20 → x ≠ A i + 1 := fun hk h2 e => h2 (by rw [← hk, e]; exact hA)
  have hlo := h.sp.2.1 i hi
  refine ⟨⟨f.1.2, h.g.st hw f, fun y hy => h.up y (Nat.le_trans f.1.1 hy)⟩, by rw [nN]; exact h.sp, ?_, by rw [nN]; exact h.w2.eq (eq h.w2.1.1 (by decide) (ne h.w2.1.1 (by decide))), ?_, h.w4.st hw f, by rw [nT]; exact h.tm.frx Vt_st hw f hx, fun j hj => ?_⟩
  · have := h.w1.eq hw f (eq h.w1.1.1 (by decide) (ne h.w1.1.1 (by decide)))
    unfold cW1 at this ⊢
    rw [nN, nG, nC]
    exact this
  · have := h.w3.eq (eq h.w3.1.1 (by decide) (by omega))
    unfold cW3 at this ⊢
    rw [nO, nG]
    exact this
  · rw [nN] at hj
    rw [nF]
    by_cases c : j = i
    · subst c
      obtain ⟨a1, a2, a3, a4⟩ := h.act hj
      refine ⟨?_, ⟨⟨hK.1.trans a2.1.1, a2.1.2.1, hK.2.trans a2.1.2.2⟩, h2⟩, a3.st hw f, ?_⟩
      · rw [h0]; exact a1.eq (eq a1.1.1 (by decide) (ne a1.1.1 (by decide)))
      · have := a4.frx hw f hx
        unfold cA4 at this ⊢
        rw [nI2 1 (by decide), nI2 2 (by decide), nI2 3 (by decide), nI2 4 (by decide)]
        exact this
    · rw [nO2 j c]
      obtain ⟨a1, a2, a3, a4⟩ := h.act hj
      have nij : A j + 1 ≠ A i + 1 := fun e => by
        rcases Nat.lt_or_gt_of_ne c with z | z
        · have := h.sp.2.2 j i z hi
          omega
        · have := h.sp.2.2 i j z hj
          omega
      exact ⟨a1.eq (eq a1.1.1 (by decide) (ne a1.1.1 (by decide))), a2.eq (eq a2.1.1 (by decide) nij), a3.st hw f, a4.frx hw f hx⟩
/-- the log changes -/
theorem CW.frL (h : CW P t w A W) (f : Fr (fun y => y = w + 3) t t') (n : aN W' = aN W ∧ aF W' = aF W ∧ aL W' = aL W ∧ aT W' = aT W ∧ aC W' = aC W ∧ aG W' = aG W) (hK : cK t' (w + 3) = cK t (w + 3) ∧ cL t' (w + 3) = cL t (w + 3)) (h2 : Lg t' (w + 3) (aG W 1).toNatClampNeg (aO W')) : CW P t' w A W' := by
  obtain ⟨nN, nF, nL, nT, nC, nG⟩ := n
  have hw := h.wf
  have hA : cK t (w + 3) = 20 := h.w3.1.1
  have hx : cK t (w + 3) ≠ 3 ∧ cK t (w + 3) ≠ 7 := by rw [hA]; decide
  have eq : ∀ {x k : Nat}, cK t x = k → k ≠ 0 → x ≠ w + 3 → cEq t t' x := fun hk h0 h2 => f.eq (h.lt hk h0) h2
  have ne : ∀ {x k : Nat}, cK t x = k → k ≠ 20 → x ≠ w + 3 := fun hk h2 e => h2 (by rw [← hk, e]; exact hA)
  refine ⟨⟨f.1.2, h.g.st hw f, fun y hy => h.up y (Nat.le_trans f.1.1 hy)⟩, by rw [nN]; exact h.sp, ?_, by rw [nN]; exact h.w2.eq (eq h.w2.1.1 (by decide) (ne h.w2.1.1 (by decide))), ⟨⟨hK.1.trans h.w3.1.1, h.w3.1.2.1, hK.2.trans h.w3.1.2.2⟩, by rw [nG]; exact h2⟩, h.w4.st hw f, by rw [nT]; exact h.tm.frx Vt_st hw f hx, fun j hj => ?_⟩
  · have := h.w1.eq hw f (eq h.w1.1.1 (by decide) (ne h.w1.1.1 (by decide)))
    unfold cW1 at this ⊢
    rw [nN, nG, nC]
    exact this
  · rw [nN] at hj
    rw [nF, nL]
    obtain ⟨a1, a2, a3, a4⟩ := h.act hj
    have := h.sp.2.1 j hj
    exact ⟨a1.eq (eq a1.1.1 (by decide) (ne a1.1.1 (by decide))), a2.eq (eq a2.1.1 (by decide) (by omega)), a3.st hw f, a4.frx hw f hx⟩
/-! a queue changes -/
theorem qc_obj {q : Nat} {mo : Int32} {cs : List (Nat × Nat)} {P' : Nat → Prop} (h : Qr P' t q mo cs) {k : Nat} (hk : cK t x = k) (h3 : k ≠ 3) (h7 : k ≠ 7) : ¬ Qc q cs x := fun z => by
  rcases z with z | z
  · rw [z, h.1.1] at hk; exact h3 hk.symm
  · obtain ⟨d, hd, e⟩ := List.mem_map.mp z
    have := (h.2.2.2.1.cell d hd).1
    rw [e, hk] at this
    exact h7 this
/-- all but that queue -/
theorem CW.frQ0 {q : Nat} {mo : Int32} {cs : List (Nat × Nat)} (h : CW P t w A W) (hq : Qr P t q mo cs) (f : Fr (Qc q cs) t t') : (cWf t' ∧ cG t' ∧ ∀ y, cn t' ≤ y → P y) ∧ cW1 P t' w W ∧ cW2 P t' w (aN W) A ∧ cW3 P t' w W ∧ cW4 t' w ∧ (q ≠ w + 2 → Qv P t' (w + 2) (nI 10) (Vt t') (tSo (aT W))) ∧ ∀ i, i < aN W → cA1 P t' (A i) i (aF W i) (aL W i 0).length ∧ cA2 P t' (A i) (aL W i 0) ∧ cA3 t' (A i) i ∧ (q ≠ A i + 2 → Qv P t' (A i + 2) (nI 12) (Vm t') (aL W i 1)) ∧ (q ≠ A i + 3 → Qv P t' (A i + 3) (nI 6) (Vm t') (aL W i 2)) ∧ (q ≠ A i + 4 → Qv P t' (A i + 4) (nI 12) (Vi t') (aL W i 3)) ∧ (q ≠ A i + 5 → Qv P t' (A i + 5) (nI 2147483647) (Vi t') (aL W i 4)) := by
  have hw := h.wf
  have eq : ∀ {x k : Nat}, cK t x = k → k ≠ 0 → k ≠ 3 → k ≠ 7 → cEq t t' x := fun hk h0 h3 h7 => f.eq (h.lt hk h0) (qc_obj hq hk h3 h7)
  refine ⟨⟨f.1.2, h.g.st hw f, fun y hy => h.up y (Nat.le_trans f.1.1 hy)⟩, h.w1.eq hw f (eq h.w1.1.1 (by decide) (by decide) (by decide)), h.w2.eq (eq h.w2.1.1 (by decide) (by decide) (by decide)), h.w3.eq (eq h.w3.1.1 (by decide) (by decide) (by decide)), h.w4.st hw f, fun n => h.tm.frq Vt_st hw hq (Ne.symm n) f, fun i hi => ?_⟩
  obtain ⟨a1, a2, a3, a4⟩ := h.act hi
  exact ⟨a1.eq (eq a1.1.1 (by decide) (by decide) (by decide)), a2.eq (eq a2.1.1 (by decide) (by decide) (by decide)), a3.st hw f, fun n => a4.1.frq Vm_st hw hq (Ne.symm n) f, fun n => a4.2.1.frq Vm_st hw hq (Ne.symm n) f, fun n => a4.2.2.1.frq Vi_st hw hq (Ne.symm n) f, fun n => a4.2.2.2.frq Vi_st hw hq (Ne.symm n) f⟩
/-- the timers -/
theorem CW.frT {mo : Int32} {cs : List (Nat × Nat)} (h : CW P t w A W) (hq : Qr P t (w + 2) mo cs) (f : Fr (Qc (w + 2) cs) t t') {xs : List (Int32 × Int32 × Int32)} (h2 : Qv P t' (w + 2) (nI 10) (Vt t') (tSo xs)) : CW P t' w A (uT W xs) := by
  obtain ⟨k1, k2, k3, k4, k5, -, k7⟩ := h.frQ0 hq f
  refine ⟨k1, h.sp, k2, k3, k4, k5, h2, fun i hi => ?_⟩
  obtain ⟨a1, a2, a3, a4, a5, a6, a7⟩ := k7 i hi
  have := h.sp.2.1 i hi
  exact ⟨a1, a2, a3, a4 (by omega), a5 (by omega), a6 (by omega), a7 (by omega)⟩
/-- the i-th actor's queue of that number -/
def qMo (k : Nat) : Int32 := if k = 1 then nI 12 else if k = 2 then nI 6 else if k = 3 then nI 12 else nI 2147483647
def qV (k : Nat) (t : cS) : Nat → Int32 × Int32 → Prop := if k = 1 ∨ k = 2 then Vm t else Vi t
theorem CW.que (h : CW P t w A W) (hi : i < aN W) {k : Nat} (hk : 1 ≤ k ∧ k ≤ 4) : Qv P t (A i + 1 + k) (qMo k) (qV k t) (aL W i k) := by
  obtain ⟨-, -, -, a4⟩ := h.act hi
  have : k = 1 ∨ k = 2 ∨ k = 3 ∨ k = 4 := by omega
  rcases this with e | e | e | e
  · subst e; exact a4.1
  · subst e; exact a4.2.1
  · subst e; exact a4.2.2.1
  · subst e; exact a4.2.2.2
theorem CW.frQ {k : Nat} {mo : Int32} {cs : List (Nat × Nat)} (h : CW P t w A W) (hi : i < aN W) (hk : 1 ≤ k ∧ k ≤ 4) (hq : Qr P t (A i + 1 + k) mo cs) (f : Fr (Qc (A i + 1 + k) cs) t t') {xs : List (Int32 × Int32)} (h2 : Qv P t' (A i + 1 + k) (qMo k) (qV k t') xs) : CW P t' w A (uL W i k xs) := by
  obtain ⟨k1, k2, k3, k4, k5, k6, k7⟩ := h.frQ0 hq f
  have hlo := h.sp.2.1 i hi
  refine ⟨k1, h.sp, k2, k3, k4, k5, k6 (by omega), fun j hj => ?_⟩
  have hj : j < aN W := hj
  obtain ⟨a1, a2, a3, a4, a5, a6, a7⟩ := k7 j hj
  have e0 : ∀ l, ¬ (j = i ∧ l = k) → aL (uL W i k xs) j l = aL W j l := fun l n => by rw [uL_L, if_neg n]
  have e00 : aL (uL W i k xs) j 0 = aL W j 0 := e0 0 (by omega)
  show cA1 P t' (A j) j (aF W j) (aL (uL W i k xs) j 0).length ∧ cA2 P t' (A j) (aL (uL W i k xs) j 0) ∧ _
  rw [e00]
  refine ⟨a1, a2, a3, ?_⟩
  unfold cA4
  by_cases c : j = i
  · subst c
    have ek : aL (uL W j k xs) j k = xs := by rw [uL_L, if_pos ⟨rfl, rfl⟩]
    have : k = 1 ∨ k = 2 ∨ k = 3 ∨ k = 4 := by omega
    rcases this with e | e | e | e
    · subst e
      rw [ek, e0 2 (by omega), e0 3 (by omega), e0 4 (by omega)]
      exact ⟨h2, a5 (by omega), a6 (by omega), a7 (by omega)⟩
    · subst e
      rw [ek, e0 1 (by omega), e0 3 (by omega), e0 4 (by omega)]
      exact ⟨a4 (by omega), h2, a6 (by omega), a7 (by omega)⟩
    · subst e
      rw [ek, e0 1 (by omega), e0 2 (by omega), e0 4 (by omega)]
      exact ⟨a4 (by omega), a5 (by omega), h2, a7 (by omega)⟩
    · subst e
      rw [ek, e0 1 (by omega), e0 2 (by omega), e0 3 (by omega)]
      exact ⟨a4 (by omega), a5 (by omega), a6 (by omega), h2⟩
  · rw [e0 1 (fun z => c z.1), e0 2 (fun z => c z.1), e0 3 (fun z => c z.1), e0 4 (fun z => c z.1)]
    have dis : A j + 8 ≤ A i ∨ A i + 8 ≤ A j := by
      rcases Nat.lt_or_gt_of_ne c with z | z
      · exact Or.inl (h.sp.2.2 j i z hi)
      · exact Or.inr (h.sp.2.2 i j z hj)
    exact ⟨a4 (by omega), a5 (by omega), a6 (by omega), a7 (by omega)⟩
end CWS
