/-! THE COMPONENT's objects as lists: what is written, what stays -/
theorem sI_I (s : cS) (f a : Nat) (x : Int32) (g b : Nat) : cI (sI s f a x) g b = if g = f ∧ b = a then x else cI s g b := rfl
theorem sI_K (s : cS) (f a : Nat) (x : Int32) : cK (sI s f a x) = cK s := rfl
theorem sI_L (s : cS) (f a : Nat) (x : Int32) : cL (sI s f a x) = cL s := rfl
theorem sI_R (s : cS) (f a : Nat) (x : Int32) : cR (sI s f a x) = cR s := rfl
theorem sI_n (s : cS) (f a : Nat) (x : Int32) : cn (sI s f a x) = cn s := rfl
theorem sI_z (s : cS) (f a : Nat) (x : Int32) : cz (sI s f a x) = cz s := rfl
theorem sR_R (s : cS) (f a : Nat) (x : Option Nat) (g b : Nat) : cR (sR s f a x) g b = if g = f ∧ b = a then x else cR s g b := rfl
theorem sR_K (s : cS) (f a : Nat) (x : Option Nat) : cK (sR s f a x) = cK s := rfl
theorem sR_L (s : cS) (f a : Nat) (x : Option Nat) : cL (sR s f a x) = cL s := rfl
theorem sR_I (s : cS) (f a : Nat) (x : Option Nat) : cI (sR s f a x) = cI s := rfl
theorem sR_n (s : cS) (f a : Nat) (x : Option Nat) : cn (sR s f a x) = cn s := rfl
theorem sR_z (s : cS) (f a : Nat) (x : Option Nat) : cz (sR s f a x) = cz s := rfl
theorem sN_K (s : cS) (k l w b : Nat) : cK (sN s k l w) b = if b = cn s then k else cK s b := rfl
theorem sN_L (s : cS) (k l w b : Nat) : cL (sN s k l w) b = if b = cn s then l else cL s b := rfl
theorem sN_I (s : cS) (k l w f b : Nat) : cI (sN s k l w) f b = if b = cn s then 0 else cI s f b := rfl
theorem sN_R (s : cS) (k l w f b : Nat) : cR (sN s k l w) f b = if b = cn s then none else cR s f b := rfl
theorem sN_n (s : cS) (k l w : Nat) : cn (sN s k l w) = cn s + 1 := rfl
theorem sN_z (s : cS) (k l w : Nat) : cz (sN s k l w) = cz s + w := rfl
theorem gd_tr {α S : Type} (f : Option (α × S)) : gd True f = f := gd_t trivial f
theorem letv_e {γ α S : Type} (x : γ) (K : γ → Option (α × S)) : letv x K = K x := rfl
theorem rv_e {γ α S : Type} (x : γ) (K : γ → Option (α × S)) : rv (some x) K = K x := rfl
theorem onul_n {α S : Type} (A : Option (α × S)) (B : Nat → Option (α × S)) : onul none A B = A := rfl
theorem onul_s {α S : Type} (A : Option (α × S)) (B : Nat → Option (α × S)) (a : Nat) : onul (some a) A B = B a := rfl
theorem ob_e {α β S T : Type} (r : α) (s : S) (K : α → S → Option (β × T)) : ob (some (r, s)) K = K r s := rfl
/-- nothing above -/
def cWf (t : cS) : Prop := ∀ x, cn t ≤ x → cK t x = 0
theorem cWf.lt {t : cS} (h : cWf t) {x : Nat} (k : cK t x ≠ 0) : x < cn t := Nat.lt_of_not_le fun q => k (h x q)
/-- classes whose objects change -/
def cMut (k : Nat) : Bool := [1, 2, 3, 5, 7, 8, 14, 20, 21, 22, 23].contains k
def cEq (t t' : cS) (x : Nat) : Prop := cK t' x = cK t x ∧ cL t' x = cL t x ∧ (∀ f, cI t' f x = cI t f x) ∧ ∀ f, cR t' f x = cR t f x
theorem cEq.rf (t : cS) (x : Nat) : cEq t t x := ⟨rfl, rfl, fun _ => rfl, fun _ => rfl⟩
theorem cEq.trans {a b c : cS} {x : Nat} (h : cEq a b x) (k : cEq b c x) : cEq a c x := ⟨k.1.trans h.1, k.2.1.trans h.2.1, fun f => (k.2.2.1 f).trans (h.2.2.1 f), fun f => (k.2.2.2 f).trans (h.2.2.2 f)⟩
/-- only what is in S changes, of what is there; and only objects of those classes -/
def Fr (S : Nat → Prop) (t t' : cS) : Prop := (cn t ≤ cn t' ∧ cWf t') ∧ ∀ x, x < cn t → ¬ (S x ∧ cMut (cK t x) = true) → cEq t t' x
section FRS
variable {S S' : Nat → Prop} {t t' t'' : cS} {x f a : Nat}
theorem Fr.rf (h : cWf t) : Fr S t t := ⟨⟨Nat.le_refl _, h⟩, fun x _ _ => cEq.rf t x⟩
theorem Fr.eq (h : Fr S t t') (hx : x < cn t) (n : ¬ S x) : cEq t t' x := h.2 x hx (fun q => n q.1)
theorem Fr.imm (h : Fr S t t') (hx : x < cn t) (n : cMut (cK t x) = false) : cEq t t' x := h.2 x hx (fun q => by rw [n] at q; exact absurd q.2 (by decide))
theorem Fr.kc (h : Fr S t t') (hx : x < cn t) : cMut (cK t x) = false → cK t' x = cK t x := fun n => (h.imm hx n).1
theorem Fr.mono (h : Fr S t t') (k : ∀ x, x < cn t → S x → S' x) : Fr S' t t' := ⟨h.1, fun x hx n => h.2 x hx (fun q => n ⟨k x hx q.1, q.2⟩)⟩
/-- the second's changes are the first's, or in what is new -/
theorem Fr.trans (h : Fr S t t') (k : Fr S' t' t'') (c : ∀ x, x < cn t → S' x → S x) : Fr S t t'' := by
  refine ⟨⟨Nat.le_trans h.1.1 k.1.1, k.1.2⟩, fun x hx n => ?_⟩
  have e1 := h.2 x hx n
  refine e1.trans (k.2 x (Nat.lt_of_lt_of_le hx h.1.1) (fun q => n ⟨c x hx q.1, ?_⟩))
  rw [← e1.1]
  exact q.2
theorem Fr.then (h : Fr S t t') (k : Fr S t' t'') : Fr S t t'' := h.trans k (fun _ _ q => q)
theorem fr_sI {y : Int32} (h : cWf t) (hS : S a) (hm : cMut (cK t a) = true) : Fr S t (sI t f a y) := by
  refine ⟨⟨Nat.le_refl _, h⟩, fun x _ n => ⟨rfl, rfl, fun g => ?_, fun _ => rfl⟩⟩
  rw [sI_I, if_neg (fun q => n (by rw [q.2]; exact ⟨hS, hm⟩))]
theorem fr_sR {y : Option Nat} (h : cWf t) (hS : S a) (hm : cMut (cK t a) = true) : Fr S t (sR t f a y) := by
  refine ⟨⟨Nat.le_refl _, h⟩, fun x _ n => ⟨rfl, rfl, fun _ => rfl, fun g => ?_⟩⟩
  rw [sR_R, if_neg (fun q => n (by rw [q.2]; exact ⟨hS, hm⟩))]
theorem fr_sN {k l w : Nat} (h : cWf t) : Fr S t (sN t k l w) := by
  refine ⟨⟨Nat.le_succ _, fun x hx => ?_⟩, fun x hx _ => ?_⟩
  · have hx : cn t + 1 ≤ x := hx
    rw [sN_K, if_neg (by omega)]
    exact h x (by omega)
  · have ne : x ≠ cn t := by omega
    exact ⟨by rw [sN_K, if_neg ne], by rw [sN_L, if_neg ne], fun f => by rw [sN_I, if_neg ne], fun f => by rw [sN_R, if_neg ne]⟩
/-- a write to a new object -/
theorem fr_nI {y : Int32} (h : Fr S t t') (ha : cn t ≤ a) : Fr S t (sI t' f a y) := by
  refine ⟨h.1, fun x hx n => ?_⟩
  obtain ⟨e1, e2, e3, e4⟩ := h.2 x hx n
  refine ⟨e1, e2, fun g => ?_, e4⟩
  rw [sI_I, if_neg (by omega)]
  exact e3 g
theorem fr_nR {y : Option Nat} (h : Fr S t t') (ha : cn t ≤ a) : Fr S t (sR t' f a y) := by
  refine ⟨h.1, fun x hx n => ?_⟩
  obtain ⟨e1, e2, e3, e4⟩ := h.2 x hx n
  refine ⟨e1, e2, e3, fun g => ?_⟩
  rw [sR_R, if_neg (by omega)]
  exact e4 g
theorem fr_sX {c w : Nat} (h : cWf t) (hc : 1 ≤ c) : Fr S t (sX t c w) := by
  refine ⟨⟨Nat.le_add_right _ _, fun x hx => ?_⟩, fun x hx _ => ?_⟩
  · have hx : cn t + c ≤ x := hx
    show (if x = cn t then 99 else cK t x) = 0
    rw [if_neg (by omega)]
    exact h x (by omega)
  · have ne : x ≠ cn t := by omega
    exact ⟨if_neg ne, rfl, fun f => rfl, fun f => if_neg ne⟩
end FRS
/-! two lists alike -/
def Al {α β : Type} (V : α → β → Prop) : List α → List β → Prop
  | [], [] => True
  | a :: l, b :: m => V a b ∧ Al V l m
  | _, _ => False
section ALS
variable {α β : Type} {V : α → β → Prop}
theorem Al.len : ∀ {l : List α} {m : List β}, Al V l m → l.length = m.length
  | [], [], _ => rfl
  | _ :: _, _ :: _, h => congrArg (· + 1) (Al.len h.2)
  | [], _ :: _, h => h.elim
  | _ :: _, [], h => h.elim
theorem Al.mono {W : α → β → Prop} (k : ∀ a b, V a b → W a b) : ∀ {l : List α} {m : List β}, Al V l m → Al W l m
  | [], [], _ => trivial
  | _ :: _, _ :: _, h => ⟨k _ _ h.1, Al.mono k h.2⟩
  | [], _ :: _, h => h.elim
  | _ :: _, [], h => h.elim
theorem Al.monoM {W : α → β → Prop} : ∀ {l : List α} {m : List β}, Al V l m → (∀ a b, a ∈ l → b ∈ m → V a b → W a b) → Al W l m
  | [], [], _, _ => trivial
  | _ :: _, _ :: _, h, k => ⟨k _ _ List.mem_cons_self List.mem_cons_self h.1, Al.monoM h.2 (fun a b ha hb => k a b (List.mem_cons_of_mem _ ha) (List.mem_cons_of_mem _ hb))⟩
  | [], _ :: _, h, _ => h.elim
  | _ :: _, [], h, _ => h.elim
theorem Al.app {l' : List α} {m' : List β} (h' : Al V l' m') : ∀ {l : List α} {m : List β}, Al V l m → Al V (l ++ l') (m ++ m')
  | [], [], _ => h'
  | _ :: _, _ :: _, h => ⟨h.1, Al.app h' h.2⟩
  | [], _ :: _, h => h.elim
  | _ :: _, [], h => h.elim
theorem Al.get : ∀ {l : List α} {m : List β}, Al V l m → ∀ (i : Nat) (a : α) (b : β), l[i]? = some a → m[i]? = some b → V a b
  | [], [], _, _, _, _, h, _ => by cases h
  | a :: l, b :: m, h, 0, _, _, h1, h2 => by cases h1; cases h2; exact h.1
  | a :: l, b :: m, h, i + 1, _, _, h1, h2 => Al.get h.2 i _ _ h1 h2
  | [], _ :: _, h, _, _, _, _, _ => h.elim
  | _ :: _, [], h, _, _, _, _, _ => h.elim
theorem Al.take : ∀ (n : Nat) {l : List α} {m : List β}, Al V l m → Al V (l.take n) (m.take n)
  | 0, _, _, _ => by simp only [List.take_zero]; trivial
  | n + 1, [], [], _ => trivial
  | n + 1, _ :: _, _ :: _, h => ⟨h.1, Al.take n h.2⟩
  | n + 1, [], _ :: _, h => h.elim
  | n + 1, _ :: _, [], h => h.elim
end ALS
/-! a queue -/
def Ch (P : Nat → Prop) (t : cS) (q : Nat) : List (Nat × Nat) → Option Nat → Prop
  | [], p => p = none
  | c :: l, p => p = some c.1 ∧ (cK t c.1 = 7 ∧ P c.1 ∧ cR t 45 c.1 = some c.2 ∧ cR t 47 c.1 = some q) ∧ Ch P t q l (cR t 46 c.1)
def Qr (P : Nat → Prop) (t : cS) (q : Nat) (most : Int32) (cs : List (Nat × Nat)) : Prop :=
  (cK t q = 3 ∧ P q ∧ cI t 21 q = most ∧ cI t 24 q = nI cs.length) ∧ cR t 22 q = cs.head?.map Prod.fst ∧ cR t 23 q = cs.getLast?.map Prod.fst ∧ Ch P t q cs (cR t 22 q) ∧ (cs.map Prod.fst).Nodup
/-- it and these cells -/
def Qc (q : Nat) (cs : List (Nat × Nat)) (y : Nat) : Prop := y = q ∨ y ∈ cs.map Prod.fst
/-- its cells, and it -/
def Qp (t : cS) (q x : Nat) : Prop := x = q ∨ (cK t x = 7 ∧ cR t 47 x = some q)
section QRS
variable {P S : Nat → Prop} {t t' : cS} {q : Nat} {most : Int32} {cs : List (Nat × Nat)}
theorem Ch.cell : ∀ {cs : List (Nat × Nat)} {p : Option Nat}, Ch P t q cs p → ∀ c ∈ cs, cK t c.1 = 7 ∧ P c.1 ∧ cR t 45 c.1 = some c.2 ∧ cR t 47 c.1 = some q
  | [], _, _, c, hc => by cases hc
  | d :: l, p, h, c, hc => by
    rcases List.mem_cons.mp hc with e | e
    · rw [e]; exact h.2.1
    · exact Ch.cell h.2.2 c e
/-- the same where the cells are the same -/
theorem Ch.eq : ∀ {cs : List (Nat × Nat)} {p : Option Nat}, Ch P t q cs p → (∀ c ∈ cs, cEq t t' c.1) → Ch P t' q cs p
  | [], _, h, _ => h
  | d :: l, p, h, k => by
    obtain ⟨e1, e2, e3, e4⟩ := k d List.mem_cons_self
    obtain ⟨h1, ⟨h2, h3, h4, h5⟩, h6⟩ := h
    refine ⟨h1, ⟨e1.trans h2, h3, (e4 45).trans h4, (e4 47).trans h5⟩, ?_⟩
    rw [e4 46]
    exact Ch.eq h6 (fun c hc => k c (List.mem_cons_of_mem _ hc))
theorem Qr.fr (h : Qr P t q most cs) (hw : cWf t) (f : Fr S t t') (n : ∀ x, Qp t q x → ¬ S x) : Qr P t' q most cs := by
  obtain ⟨⟨h1, h2, h3, h4⟩, h5, h6, h7, h8⟩ := h
  obtain ⟨e1, e2, e3, e4⟩ := f.eq (hw.lt (x := q) (by rw [h1]; decide)) (n q (Or.inl rfl))
  refine ⟨⟨e1.trans h1, h2, (e3 21).trans h3, (e3 24).trans h4⟩, (e4 22).trans h5, (e4 23).trans h6, ?_, h8⟩
  rw [e4 22]
  refine h7.eq (fun c hc => ?_)
  obtain ⟨c1, c2, c3, c4⟩ := h7.cell c hc
  exact f.eq (hw.lt (by rw [c1]; decide)) (n c.1 (Or.inr ⟨c1, c4⟩))
/-- another queue's cells -/
theorem Qr.ne {cs' : List (Nat × Nat)} {q' : Nat} {most' : Int32} {P' : Nat → Prop} (h : Qr P t q most cs) (h' : Qr P' t q' most' cs') (n : q ≠ q') {c : Nat × Nat} (hc : c ∈ cs) : ¬ Qc q' cs' c.1 := fun z => by
  obtain ⟨c1, c2, c3, c4⟩ := h.2.2.2.1.cell c hc
  rcases z with z | z
  · rw [z, h'.1.1] at c1; exact absurd c1 (by decide)
  · obtain ⟨d, hd, e⟩ := List.mem_map.mp z
    obtain ⟨-, -, -, d4⟩ := h'.2.2.2.1.cell d hd
    rw [e, c4] at d4
    exact n (Option.some.inj d4)
theorem Qr.neq {cs' : List (Nat × Nat)} {q' : Nat} {most' : Int32} {P' : Nat → Prop} (h : Qr P t q most cs) (h' : Qr P' t q' most' cs') (n : q ≠ q') : ¬ Qc q' cs' q := fun z => by
  rcases z with z | z
  · exact n z
  · obtain ⟨d, hd, e⟩ := List.mem_map.mp z
    have := (h'.2.2.2.1.cell d hd).1
    rw [e, h.1.1] at this
    exact absurd this (by decide)
theorem Qr.lenI (h : Qr P t q most cs) : cI t 24 q = nI cs.length := h.1.2.2.2
theorem Qr.mono {P' : Nat → Prop} (h : Qr P t q most cs) (k : ∀ x, P x → P' x) : Qr P' t q most cs := by
  obtain ⟨⟨h1, h2, h3, h4⟩, h5, h6, h7, h8⟩ := h
  refine ⟨⟨h1, k _ h2, h3, h4⟩, h5, h6, ?_, h8⟩
  have : ∀ (cs : List (Nat × Nat)) (p : Option Nat), Ch P t q cs p → Ch P' t q cs p := by
    intro cs
    induction cs with
    | nil => exact fun _ h => h
    | cons c l ih => exact fun p h => ⟨h.1, ⟨h.2.1.1, k _ h.2.1.2.1, h.2.1.2.2⟩, ih _ h.2.2⟩
  exact this cs _ h7
end QRS
