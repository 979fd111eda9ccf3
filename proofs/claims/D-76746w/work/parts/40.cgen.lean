/-! what the printed walks of the component use -/
abbrev rI : Int32 → Option Value ⊕ Nat := fun x => .inl (some (.int x))
abbrev rV : Unit → Option Value ⊕ Nat := fun _ => .inl none
abbrev rR : Option Nat → Option Value ⊕ Nat := fun x => .inl (some (vr x))
abbrev rIx : Int32 ⊕ Nat → Option Value ⊕ Nat := fun r => match r with
  | .inl x => .inl (some (.int x))
  | .inr e => .inr e
abbrev rVx : Unit ⊕ Nat → Option Value ⊕ Nat := fun r => match r with
  | .inl _ => .inl none
  | .inr e => .inr e
/-- behind a call that may throw -/
def obK {α β S T : Type} (k : α → S → Option (β × T)) (kx : Nat → S → Option (β × T)) : α ⊕ Nat → S → Option (β × T)
  | .inl a, s => k a s
  | .inr e, s => kx e s
def obx {α β S T : Type} (x : Option ((α ⊕ Nat) × S)) (k : α → S → Option (β × T)) (kx : Nat → S → Option (β × T)) : Option (β × T) := ob x (obK k kx)
theorem obx_l {α β S T : Type} (a : α) (s : S) (k : α → S → Option (β × T)) (kx : Nat → S → Option (β × T)) : obx (some (.inl a, s)) k kx = k a s := rfl
theorem obx_r {α β S T : Type} (e : Nat) (s : S) (k : α → S → Option (β × T)) (kx : Nat → S → Option (β × T)) : obx (some (.inr e, s)) k kx = kx e s := rfl
theorem mo_obx {α β : Type} {s : cS} {f : Option ((β ⊕ Nat) × cS)} {k : β → cS → Option (α × cS)} {kx : Nat → cS → Option (α × cS)} (h : MO s f) (a : ∀ r t, MO t (k r t)) (b : ∀ r t, MO t (kx r t)) : MO s (obx f k kx) := mo_ob h (fun r t => by
  cases r with
  | inl x => exact a x t
  | inr x => exact b x t)
section GKN
variable {α γ : Type} {X : gCx} {Y : cY} {M : cMd α} {pc pc0 : Nat} {lv : List (Nat × Value)} {rest : List Value}
theorem kn_I {K : Int32 → cS → Option (α × cS)} (h : ∀ r s1, GC X Y M (K r s1) s1 pc lv (.int r :: rest)) : ∀ (r : Int32) (s1 : cS) (v : Option Value), rI r = .inl v → GC X Y M (K r s1) s1 pc lv (v.toList ++ rest) := fun r s1 v hv => by cases hv; exact h r s1
theorem kn_V {K : Unit → cS → Option (α × cS)} (h : ∀ r s1, GC X Y M (K r s1) s1 pc lv rest) : ∀ (r : Unit) (s1 : cS) (v : Option Value), rV r = .inl v → GC X Y M (K r s1) s1 pc lv (v.toList ++ rest) := fun r s1 v hv => by cases hv; exact h r s1
theorem kn_R {K : Option Nat → cS → Option (α × cS)} (h : ∀ r s1, GC X Y M (K r s1) s1 pc lv (vr r :: rest)) : ∀ (r : Option Nat) (s1 : cS) (v : Option Value), rR r = .inl v → GC X Y M (K r s1) s1 pc lv (v.toList ++ rest) := fun r s1 v hv => by cases hv; exact h r s1
theorem kx_I {K : Int32 → cS → Option (α × cS)} : ∀ (r : Int32) (s1 : cS) (x : Nat), rI r = .inr x → GX X Y M (K r s1) s1 pc lv x := fun r s1 v hv => by cases hv
theorem kx_V {K : Unit → cS → Option (α × cS)} : ∀ (r : Unit) (s1 : cS) (x : Nat), rV r = .inr x → GX X Y M (K r s1) s1 pc lv x := fun r s1 v hv => by cases hv
theorem kx_R {K : Option Nat → cS → Option (α × cS)} : ∀ (r : Option Nat) (s1 : cS) (x : Nat), rR r = .inr x → GX X Y M (K r s1) s1 pc lv x := fun r s1 v hv => by cases hv
theorem kn_Ix {k : Int32 → cS → Option (α × cS)} {kx : Nat → cS → Option (α × cS)} (h : ∀ r s1, GC X Y M (k r s1) s1 pc lv (.int r :: rest)) : ∀ (r : Int32 ⊕ Nat) (s1 : cS) (v : Option Value), rIx r = .inl v → GC X Y M (obK k kx r s1) s1 pc lv (v.toList ++ rest) := fun r s1 v hv => by
  cases r with
  | inl e0 => cases hv; exact h e0 s1
  | inr x => cases hv
theorem kx_Ix {k : Int32 → cS → Option (α × cS)} {kx : Nat → cS → Option (α × cS)} (h : ∀ e s1, GX X Y M (kx e s1) s1 pc lv e) : ∀ (r : Int32 ⊕ Nat) (s1 : cS) (x : Nat), rIx r = .inr x → GX X Y M (obK k kx r s1) s1 pc lv x := fun r s1 v hv => by
  cases r with
  | inl x => cases hv
  | inr e0 => cases hv; exact h v s1
theorem kn_Vx {k : Unit → cS → Option (α × cS)} {kx : Nat → cS → Option (α × cS)} (h : ∀ r s1, GC X Y M (k r s1) s1 pc lv rest) : ∀ (r : Unit ⊕ Nat) (s1 : cS) (v : Option Value), rVx r = .inl v → GC X Y M (obK k kx r s1) s1 pc lv (v.toList ++ rest) := fun r s1 v hv => by
  cases r with
  | inl e0 => cases hv; exact h e0 s1
  | inr x => cases hv
theorem kx_Vx {k : Unit → cS → Option (α × cS)} {kx : Nat → cS → Option (α × cS)} (h : ∀ e s1, GX X Y M (kx e s1) s1 pc lv e) : ∀ (r : Unit ⊕ Nat) (s1 : cS) (x : Nat), rVx r = .inr x → GX X Y M (obK k kx r s1) s1 pc lv x := fun r s1 v hv => by
  cases r with
  | inl x => cases hv
  | inr e0 => cases hv; exact h v s1
theorem gx_gd {c : Prop} [Decidable c] {F : Option (α × cS)} {s : cS} {x : Nat} (k : c → GX X Y M F s pc lv x) : GX X Y M (gd c F) s pc lv x := by
  by_cases h : c
  · rw [gd_t h]; exact k h
  · intro r t' e; unfold gd at e; rw [if_neg h] at e; cases e
theorem gx_ite {c : Prop} [Decidable c] {A B : Option (α × cS)} {s : cS} {x : Nat} (a : c → GX X Y M A s pc lv x) (b : GX X Y M B s pc lv x) : GX X Y M (if c then A else B) s pc lv x := by
  by_cases h : c
  · rw [if_pos h]; exact a h
  · rw [if_neg h]; exact b
theorem gc_ite {c : Prop} [Decidable c] {A B : Option (α × cS)} {s : cS} {st : List Value} (a : c → GC X Y M A s pc lv st) (b : ¬ c → GC X Y M B s pc lv st) : GC X Y M (if c then A else B) s pc lv st := by
  by_cases h : c
  · rw [if_pos h]; exact a h
  · rw [if_neg h]; exact b h
end GKN
theorem nar_o {n : String} (x : Option Nat) (ad : Nat → Nat) : narrow (.object n) (tv ad (vr x)) = tv ad (vr x) := by cases x <;> rfl
theorem fit_o {n : String} (x : Option Nat) (ad : Nat → Nat) : fits (.object n) (tv ad (vr x)) = true := by cases x <;> rfl
theorem nar_a {t : FieldType} (x : Option Nat) (ad : Nat → Nat) : narrow (.array t) (tv ad (vr x)) = tv ad (vr x) := by cases x <;> rfl
theorem fit_a {t : FieldType} (x : Option Nat) (ad : Nat → Nat) : fits (.array t) (tv ad (vr x)) = true := by cases x <;> rfl
theorem nar_z2 {x : Int32} (h : x = nI 0 ∨ x = nI 1) (ad : Nat → Nat) : narrow .boolean (tv ad (.int x)) = tv ad (.int x) := nar_z h
theorem fit_z2 {x : Int32} (h : x = nI 0 ∨ x = nI 1) (ad : Nat → Nat) : fits .boolean (tv ad (.int x)) = true := by rcases h with h | h <;> rw [h] <;> rfl
/-- a reference compared -/
theorem gc_acmp_ne {α : Type} {X : gCx} {Y : cY} {M : cMd α} {A B : Option (α × cS)} {s : cS} {pc : Nat} {lv : List (Nat × Value)} {st : List Value} {own : String} {cc : ByteArray} (hC : gOk X own cc) {x y : Nat} {off : Int} {tgt : Nat} (hx : cK s x ≠ 99) (hy : cK s y ≠ 99) (hdg : decode cc pc = .ok (.if_acmp .ne off, 3)) (ht : (pc : Int) + off = (tgt : Int)) (ka : GC X Y M A s (pc + 3) lv st) (kb : GC X Y M B s tgt lv st) : GC X Y M (if x = y then A else B) s pc lv (.ref y :: .ref x :: st) := by
  obtain ⟨p, l, e, R, z, m, args, below, meth, c⟩ := X
  refine gc_br (st' := st) (fun ad H locs cells slots Q ls g hH hR a b => ?_) (fun h => h.tail.tail) ka kb
  refine lv_acmp_ne (rx := some (ad x)) (ry := some (ad y)) hC.1 hC.2.1 hdg ht (fun h => b (fun q => h (by rw [q]))) (fun h => a ?_)
  exact hH.2.1 x y hR.tail.head hR.head hx hy (Option.some.inj h)
theorem cat_vr (x : Option Nat) : (vr x).category = 1 := by cases x <;> rfl
set_option maxRecDepth 100000 in
theorem gc_objInit {α : Type} {X : gCx} {Y : cY} {M : cMd α} {F : Option (α × cS)} {s : cS} {pc d idx a : Nat} {lv : List (Nat × Value)} {st : List Value} {own : String} {cc : ByteArray} (hC : cOk X Y own cc d) (hnL : gLoc X = M.1) (w1 : Cond.methodLink own idx Lib.objectInit ∈ lw_all) (w2 : Cond.instanceMethod Lib.objectInit ∈ lw_all) (w3 : Cond.code Lib.objectInit ⟨#[0xb1]⟩ 1 none ∈ lw_all) (hdg : decode cc pc = .ok (.invokespecial idx, 3)) (hs : (st.map fun v => v.category).sum ≤ 8) (k : GC X Y M F s (pc + 3) lv st) : GC X Y M F s pc lv (.ref a :: st) := by
  obtain ⟨p, l, e, R, z, m, args, below, meth, c⟩ := X
  obtain ⟨⟨hx, hb, hown, hts, hlk⟩, hB, -, hfr, hlo, -⟩ := hC
  have hfr : d + 16 ≤ R.frames := hfr
  have hlo : 64 * d + 10400 ≤ R.locals := hlo
  refine gc_go (lv' := lv) (st' := st) (fun ad H locs cells slots Q ls g k => ?_) (fun h => h.tail) k
  exact W.objInit (a := ad a) hx hb hown (hts _ w1) (hts _ w2) (hts _ w3) rfl (g.1.1.trans hnL.symm) rfl hdg (by omega) (by show 2 * 0 + _ + 12 ≤ R.locals; rw [cat_map]; omega) (k ls g)
theorem lg_le {av : List Value} {n : Nat} (h : ∀ v ∈ av, v.category = 1) (hn : av.length ≤ n) : (lg_sl av).length ≤ n := by
  have key : (lg_sl av).length = av.length := by
    unfold lg_sl
    clear hn
    induction av with
    | nil => rfl
    | cons v l ih =>
      simp only [List.flatMap_cons, List.length_append, List.length_cons, ih (fun x hx => h x (List.mem_cons_of_mem _ hx))]
      have := h v List.mem_cons_self
      simp only [this]
      simp
      omega
  omega
def lv_s : Nat → List Value → List (Nat × Value)
  | _, [] => []
  | i, v :: vs => (i, v) :: lv_s (i + 1) vs
theorem lv_args_s {av : List Value} (h : ∀ v ∈ av, v.category = 1) : lv_args 0 av = lv_s 0 av := by
  have key : ∀ (av : List Value) (i : Nat), (∀ v ∈ av, v.category = 1) → lv_args i av = lv_s i av := by
    intro av
    induction av with
    | nil => intro i _; rfl
    | cons v l ih =>
      intro i h
      show (i, v) :: lv_args (if v.category = 2 then i + 2 else i + 1) l = (i, v) :: lv_s (i + 1) l
      rw [if_neg (by rw [h v List.mem_cons_self]; decide), ih _ (fun x hx => h x (List.mem_cons_of_mem _ hx))]
  exact key av 0 h
section GMIN
variable {α : Type} {X : gCx} {Y : cY} {M : cMd α} {F : Option (α × cS)} {s : cS} {pc pc' d index : Nat} {lv : List (Nat × Value)} {st st' : List Value} {own : String} {cc : ByteArray}
theorem gc_rdB (hh : ∀ (ad : Nat → Nat) (H : Heap) (locs : List Loc) (cells slots : Nat) (Q : State → Prop) (ls : Array Slot), cells ≤ (gRm X).cells → slots ≤ (gRm X).slots → cH Y ad s H → cRf s lv st → va_S Y.2.2.2.1 (gSt X).heap H locs → gHas ls M.1 (lmap ad lv) → gW X H locs cells slots Q (F0 (gMe X) pc' ls (st'.map (tv ad))) → gW X H locs cells slots Q (F0 (gMe X) pc ls (st.map (tv ad))))
    (hr : ∀ (ad : Nat → Nat) (H : Heap), cH Y ad s H → cRf s lv st → cRf s lv st') (k : GC X Y M F s pc' lv st') : GC X Y M F s pc lv st := by
  intro r t' h
  obtain ⟨h1, h2⟩ := k r t' h
  have m1 := h1.1
  have m2 := h1.2.1
  exact ⟨h1, fun ad mc ms cells slots H locs ls a b c d e f g i j l => hh ad H locs cells slots _ ls (by omega) (by omega) e f j l (h2 ad mc ms cells slots H locs ls a b c d e (hr ad H e f) g i j l)⟩
set_option maxRecDepth 100000 in
theorem gc_mmin (hC : cOk X Y own cc d) (hnL : gLoc X = M.1) {x y : Int32} (w1 : Cond.methodLink own index Lib.Math.min.name ∈ lw_all) (w2 : Cond.static Lib.Math.min.name ∈ lw_all) (w3 : Cond.initialized "java/lang/Math" ∈ lw_all) (w4 : Cond.code Lib.Math.min.name Lib.Math.min.code 2 (some .int) ∈ lw_all) (hdg : decode cc pc = .ok (.invokestatic index, 3)) (hs : (st.map fun v => v.category).sum ≤ 8) (k : GC X Y M F s (pc + 3) lv (.int (if y < x then y else x) :: st)) : GC X Y M F s pc lv (.int y :: .int x :: st) := by
  refine gc_rdB (st' := .int (if y < x then y else x) :: st) (fun ad H locs cells slots Q ls h1 h2 hH hR hS g k => ?_) (fun ad H hH hR => hR.tail.tail.cons trivial) k
  obtain ⟨p, l, e, R, z, m, args, below, meth, c⟩ := X
  obtain ⟨⟨hx, hb, hown, hts, hlk⟩, hB, -, hfr, hlo, -⟩ := hC
  have hfr : d + 16 ≤ R.frames := hfr
  have hlo : 64 * d + 10400 ≤ R.locals := hlo
  exact va_mmin hx hb (hnL.trans g.1.1.symm) hown (hts _ w1) (hts _ w2) (hts _ w3) (hts _ w4) (by omega) (by rw [cat_map]; omega) h1 h2 hdg k
end GMIN
theorem cat_r (a : Nat) : (Value.ref a).category = 1 := rfl
theorem cat_i (a : Int32) : (Value.int a).category = 1 := rfl
theorem cat_n : Value.null.category = 1 := rfl
