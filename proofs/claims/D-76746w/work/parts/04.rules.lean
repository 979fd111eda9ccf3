/-! the shared rows: arithmetic, locals, stack, branches -/
def irm (x y : Int32) : Int32 := x - x / y * y
def ishl32 (x y : Int32) : Int32 := x <<< (y &&& 31)
def ishr32 (x y : Int32) : Int32 := x >>> (y &&& 31)
def iushr32 (x y : Int32) : Int32 := (x.toUInt32 >>> (y.toUInt32 &&& Int32.toUInt32 31)).toInt32
section GFA
variable {S α : Type} {X : gCx} {M : gMd S α} {F A B : Option (α × S)} {t : S} {pc : Nat} {lv lv' : List (Nat × Value)} {st st' : List Value} {own : String} {cc : ByteArray}
theorem gf_iconst (hC : gOk X own cc) {n : Int} (v : Int32) (hdg : decode cc pc = .ok (.iconst n, 1)) (hv : Int32.ofInt n = v) (k : GF X M F t (pc + 1) lv (.int v :: st)) : GF X M F t pc lv (st) := by
  obtain ⟨p, l, e, R, s, m, args, below, meth, c⟩ := X
  exact gf_go (fun H locs cells slots Q ls g k => lv_iconst hC.1 hC.2.1 hdg hv (k ls g)) k
theorem gf_bipush (hC : gOk X own cc) {n : Int} (v : Int32) (hdg : decode cc pc = .ok (.bipush n, 2)) (hv : (Int8.ofInt n).toInt32 = v) (k : GF X M F t (pc + 2) lv (.int v :: st)) : GF X M F t pc lv (st) := by
  obtain ⟨p, l, e, R, s, m, args, below, meth, c⟩ := X
  exact gf_go (fun H locs cells slots Q ls g k => lv_bipush hC.1 hC.2.1 hdg hv (k ls g)) k
theorem gf_sipush (hC : gOk X own cc) {n : Int} (v : Int32) (hdg : decode cc pc = .ok (.sipush n, 3)) (hv : (Int16.ofInt n).toInt32 = v) (k : GF X M F t (pc + 3) lv (.int v :: st)) : GF X M F t pc lv (st) := by
  obtain ⟨p, l, e, R, s, m, args, below, meth, c⟩ := X
  exact gf_go (fun H locs cells slots Q ls g k => lv_sipush hC.1 hC.2.1 hdg hv (k ls g)) k
theorem gf_ldc (hC : gOk X own cc) {index : Nat} (v : Int32) (hdg : decode cc pc = .ok (.ldc index, 2)) (hw : Cond.constant own index v ∈ lw_all) (k : GF X M F t (pc + 2) lv (.int v :: st)) : GF X M F t pc lv (st) := by
  obtain ⟨p, l, e, R, s, m, args, below, meth, c⟩ := X
  exact gf_go (fun H locs cells slots Q ls g k => lv_ldc hC.1 hC.2.1 hC.2.2.1 (hC.2.2.2.1 _ hw) hdg (k ls g)) k
theorem gf_ldcw (hC : gOk X own cc) {index : Nat} (v : Int32) (hdg : decode cc pc = .ok (.ldc_w index, 3)) (hw : Cond.constant own index v ∈ lw_all) (k : GF X M F t (pc + 3) lv (.int v :: st)) : GF X M F t pc lv (st) := by
  obtain ⟨p, l, e, R, s, m, args, below, meth, c⟩ := X
  exact gf_go (fun H locs cells slots Q ls g k => lv_ldcw hC.1 hC.2.1 hC.2.2.1 (hC.2.2.2.1 _ hw) hdg (k ls g)) k
theorem gf_iload_n (hC : gOk X own cc) {j : Fin 4} {i : Nat} {x : Int32} (hdg : decode cc pc = .ok (.iload_n j, 1)) (hi : (j : Nat) = i) (hl : lget lv i = some (.int x)) (k : GF X M F t (pc + 1) lv (.int x :: st)) : GF X M F t pc lv (st) := by
  obtain ⟨p, l, e, R, s, m, args, below, meth, c⟩ := X
  exact gf_go (fun H locs cells slots Q ls g k => lv_iload_n hC.1 hC.2.1 hdg hi (g.get hl) (k ls g)) k
theorem gf_iload (hC : gOk X own cc) {i : Nat} {x : Int32} (hdg : decode cc pc = .ok (.iload i, 2)) (hl : lget lv i = some (.int x)) (k : GF X M F t (pc + 2) lv (.int x :: st)) : GF X M F t pc lv (st) := by
  obtain ⟨p, l, e, R, s, m, args, below, meth, c⟩ := X
  exact gf_go (fun H locs cells slots Q ls g k => lv_iload hC.1 hC.2.1 hdg (g.get hl) (k ls g)) k
theorem gf_aload_n (hC : gOk X own cc) {j : Fin 4} {i : Nat} {x : Nat} (hdg : decode cc pc = .ok (.aload_n j, 1)) (hi : (j : Nat) = i) (hl : lget lv i = some (.ref x)) (k : GF X M F t (pc + 1) lv (.ref x :: st)) : GF X M F t pc lv (st) := by
  obtain ⟨p, l, e, R, s, m, args, below, meth, c⟩ := X
  exact gf_go (fun H locs cells slots Q ls g k => lv_aload_n hC.1 hC.2.1 hdg hi (g.get hl) (k ls g)) k
theorem gf_aload (hC : gOk X own cc) {i : Nat} {x : Nat} (hdg : decode cc pc = .ok (.aload i, 2)) (hl : lget lv i = some (.ref x)) (k : GF X M F t (pc + 2) lv (.ref x :: st)) : GF X M F t pc lv (st) := by
  obtain ⟨p, l, e, R, s, m, args, below, meth, c⟩ := X
  exact gf_go (fun H locs cells slots Q ls g k => lv_aload hC.1 hC.2.1 hdg (g.get hl) (k ls g)) k
theorem gf_istore_n (hC : gOk X own cc) {j : Fin 4} {i : Nat} {x : Int32} (hdg : decode cc pc = .ok (.istore_n j, 1)) (hi : (j : Nat) = i) (hn : i < M.1) (hl : lput i (.int x) lv = lv') (k : GF X M F t (pc + 1) lv' st) : GF X M F t pc lv (.int x :: st) := by
  obtain ⟨p, l, e, R, s, m, args, below, meth, c⟩ := X
  subst hl
  exact gf_go (fun H locs cells slots Q ls g k => lv_istore_n hC.1 hC.2.1 hdg hi g.1 hn rfl (fun ls' h' => k ls' (g.put rfl rfl h'))) k
theorem gf_istore (hC : gOk X own cc) {i : Nat} {x : Int32} (hdg : decode cc pc = .ok (.istore i, 2)) (hn : i < M.1) (hl : lput i (.int x) lv = lv') (k : GF X M F t (pc + 2) lv' st) : GF X M F t pc lv (.int x :: st) := by
  obtain ⟨p, l, e, R, s, m, args, below, meth, c⟩ := X
  subst hl
  exact gf_go (fun H locs cells slots Q ls g k => lv_istore hC.1 hC.2.1 hdg g.1 hn rfl (fun ls' h' => k ls' (g.put rfl rfl h'))) k
theorem gf_astore_n (hC : gOk X own cc) {j : Fin 4} {i : Nat} {x : Nat} (hdg : decode cc pc = .ok (.astore_n j, 1)) (hi : (j : Nat) = i) (hn : i < M.1) (hl : lput i (.ref x) lv = lv') (k : GF X M F t (pc + 1) lv' st) : GF X M F t pc lv (.ref x :: st) := by
  obtain ⟨p, l, e, R, s, m, args, below, meth, c⟩ := X
  subst hl
  exact gf_go (fun H locs cells slots Q ls g k => lv_astore_n hC.1 hC.2.1 hdg hi g.1 hn rfl (fun ls' h' => k ls' (g.put rfl rfl h'))) k
theorem gf_astore (hC : gOk X own cc) {i : Nat} {x : Nat} (hdg : decode cc pc = .ok (.astore i, 2)) (hn : i < M.1) (hl : lput i (.ref x) lv = lv') (k : GF X M F t (pc + 2) lv' st) : GF X M F t pc lv (.ref x :: st) := by
  obtain ⟨p, l, e, R, s, m, args, below, meth, c⟩ := X
  subst hl
  exact gf_go (fun H locs cells slots Q ls g k => lv_astore hC.1 hC.2.1 hdg g.1 hn rfl (fun ls' h' => k ls' (g.put rfl rfl h'))) k
theorem lget_idx {lv : List (Nat × Value)} {i : Nat} {v : Value} (h : lget lv i = some v) : ∃ k : Nat, lv[k]? = some (i, v) := List.getElem?_of_mem (lget_mem h)
theorem gf_iinc (hC : gOk X own cc) {i : Nat} {n : Int} {x : Int32} (v : Int32) (hdg : decode cc pc = .ok (.iinc i n, 3)) (hg : lget lv i = some (.int x)) (hv : x + Int32.ofInt n = v) (hn : i < M.1) (hl : lput i (.int v) lv = lv') (k : GF X M F t (pc + 3) lv' st) : GF X M F t pc lv st := by
  obtain ⟨p, l, e, R, s, m, args, below, meth, c⟩ := X
  subst hl
  obtain ⟨j, hj⟩ := lget_idx hg
  exact gf_go (fun H locs cells slots Q ls g k => lv_iinc hC.1 hC.2.1 hdg g.1 hj hv hn rfl (fun ls' h' => k ls' (g.put rfl rfl h'))) k
theorem gf_letiinc (hC : gOk X own cc) {i : Nat} {n : Int} {x c : Int32} {lv' : Int32 → List (Nat × Value)} {f : Int32 → Option (α × S)} (hdg : decode cc pc = .ok (.iinc i n, 3)) (hg : lget lv i = some (.int x)) (hc : Int32.ofInt n = c) (hn : i < M.1) (hl : ∀ y : Int32, lput i (.int y) lv = lv' y) (k : ∀ y : Int32, GF X M (f y) t (pc + 3) (lv' y) st) : GF X M (letv (x + c) f) t pc lv st := by
  subst hc
  exact gf_iinc hC (x + Int32.ofInt n) hdg hg rfl hn (hl _) (k (x + Int32.ofInt n))
theorem gf_letS {K : S → Option (α × S)} {e : S} (k : ∀ t1 : S, GF X M (K t1) t1 pc lv st) : GF X M (letv e K) e pc lv st := k e
theorem gf_iadd (hC : gOk X own cc) {x y : Int32} (hdg : decode cc pc = .ok (.iadd, 1)) (k : GF X M F t (pc + 1) lv (.int (x + y) :: st)) : GF X M F t pc lv (.int y :: .int x :: st) := by
  obtain ⟨p, l, e, R, s, m, args, below, meth, c⟩ := X
  exact gf_go (fun H locs cells slots Q ls g k => lv_iadd hC.1 hC.2.1 hdg (k ls g)) k
theorem gf_isub (hC : gOk X own cc) {x y : Int32} (hdg : decode cc pc = .ok (.isub, 1)) (k : GF X M F t (pc + 1) lv (.int (x - y) :: st)) : GF X M F t pc lv (.int y :: .int x :: st) := by
  obtain ⟨p, l, e, R, s, m, args, below, meth, c⟩ := X
  exact gf_go (fun H locs cells slots Q ls g k => lv_isub hC.1 hC.2.1 hdg (k ls g)) k
theorem gf_imul (hC : gOk X own cc) {x y : Int32} (hdg : decode cc pc = .ok (.imul, 1)) (k : GF X M F t (pc + 1) lv (.int (x * y) :: st)) : GF X M F t pc lv (.int y :: .int x :: st) := by
  obtain ⟨p, l, e, R, s, m, args, below, meth, c⟩ := X
  exact gf_go (fun H locs cells slots Q ls g k => lv_imul hC.1 hC.2.1 hdg (k ls g)) k
theorem gf_iand (hC : gOk X own cc) {x y : Int32} (hdg : decode cc pc = .ok (.iand, 1)) (k : GF X M F t (pc + 1) lv (.int (x &&& y) :: st)) : GF X M F t pc lv (.int y :: .int x :: st) := by
  obtain ⟨p, l, e, R, s, m, args, below, meth, c⟩ := X
  exact gf_go (fun H locs cells slots Q ls g k => lv_iand hC.1 hC.2.1 hdg (k ls g)) k
theorem gf_ior (hC : gOk X own cc) {x y : Int32} (hdg : decode cc pc = .ok (.ior, 1)) (k : GF X M F t (pc + 1) lv (.int (x ||| y) :: st)) : GF X M F t pc lv (.int y :: .int x :: st) := by
  obtain ⟨p, l, e, R, s, m, args, below, meth, c⟩ := X
  exact gf_go (fun H locs cells slots Q ls g k => lv_ior hC.1 hC.2.1 hdg (k ls g)) k
theorem gf_ixor (hC : gOk X own cc) {x y : Int32} (hdg : decode cc pc = .ok (.ixor, 1)) (k : GF X M F t (pc + 1) lv (.int (x ^^^ y) :: st)) : GF X M F t pc lv (.int y :: .int x :: st) := by
  obtain ⟨p, l, e, R, s, m, args, below, meth, c⟩ := X
  exact gf_go (fun H locs cells slots Q ls g k => lv_ixor hC.1 hC.2.1 hdg (k ls g)) k
theorem gf_ishl (hC : gOk X own cc) {x y : Int32} (hdg : decode cc pc = .ok (.ishl, 1)) (k : GF X M F t (pc + 1) lv (.int (ishl32 x y) :: st)) : GF X M F t pc lv (.int y :: .int x :: st) := by
  obtain ⟨p, l, e, R, s, m, args, below, meth, c⟩ := X
  exact gf_go (fun H locs cells slots Q ls g k => lv_ishl hC.1 hC.2.1 hdg (k ls g)) k
theorem gf_ishr (hC : gOk X own cc) {x y : Int32} (hdg : decode cc pc = .ok (.ishr, 1)) (k : GF X M F t (pc + 1) lv (.int (ishr32 x y) :: st)) : GF X M F t pc lv (.int y :: .int x :: st) := by
  obtain ⟨p, l, e, R, s, m, args, below, meth, c⟩ := X
  exact gf_go (fun H locs cells slots Q ls g k => lv_ishr hC.1 hC.2.1 hdg (k ls g)) k
theorem gf_iushr (hC : gOk X own cc) {x y : Int32} (hdg : decode cc pc = .ok (.iushr, 1)) (k : GF X M F t (pc + 1) lv (.int (iushr32 x y) :: st)) : GF X M F t pc lv (.int y :: .int x :: st) := by
  obtain ⟨p, l, e, R, s, m, args, below, meth, c⟩ := X
  exact gf_go (fun H locs cells slots Q ls g k => lv_iushr hC.1 hC.2.1 hdg rfl (k ls g)) k
theorem gf_ineg (hC : gOk X own cc) {x : Int32} (hdg : decode cc pc = .ok (.ineg, 1)) (k : GF X M F t (pc + 1) lv (.int (-x) :: st)) : GF X M F t pc lv (.int x :: st) := by
  obtain ⟨p, l, e, R, s, m, args, below, meth, c⟩ := X
  exact gf_go (fun H locs cells slots Q ls g k => lv_ineg hC.1 hC.2.1 hdg (k ls g)) k
theorem gf_i2b (hC : gOk X own cc) {x : Int32} (hdg : decode cc pc = .ok (.i2b, 1)) (k : GF X M F t (pc + 1) lv (.int x.toInt8.toInt32 :: st)) : GF X M F t pc lv (.int x :: st) := by
  obtain ⟨p, l, e, R, s, m, args, below, meth, c⟩ := X
  exact gf_go (fun H locs cells slots Q ls g k => lv_i2b hC.1 hC.2.1 hdg rfl (k ls g)) k
theorem gf_idiv (hC : gOk X own cc) {x y : Int32} (hdg : decode cc pc = .ok (.idiv, 1)) (hne : ¬ y = 0) (k : GF X M F t (pc + 1) lv (.int (x / y) :: st)) : GF X M F t pc lv (.int y :: .int x :: st) := by
  obtain ⟨p, l, e, R, s, m, args, below, meth, c⟩ := X
  exact gf_go (fun H locs cells slots Q ls g k => lv_idiv hC.1 hC.2.1 hdg hne (k ls g)) k
theorem gf_irem (hC : gOk X own cc) {x y : Int32} (hdg : decode cc pc = .ok (.irem, 1)) (hne : ¬ y = 0) (k : GF X M F t (pc + 1) lv (.int (irm x y) :: st)) : GF X M F t pc lv (.int y :: .int x :: st) := by
  obtain ⟨p, l, e, R, s, m, args, below, meth, c⟩ := X
  exact gf_go (fun H locs cells slots Q ls g k => lv_irem hC.1 hC.2.1 hdg hne (k ls g)) k
theorem gf_dup (hC : gOk X own cc) {a : Value} (hdg : decode cc pc = .ok (.dup, 1)) (ha : a.category = 1) (k : GF X M F t (pc + 1) lv (a :: a :: st)) : GF X M F t pc lv (a :: st) := by
  obtain ⟨p, l, e, R, s, m, args, below, meth, c⟩ := X
  exact gf_go (fun H locs cells slots Q ls g k => lv_dup hC.1 hC.2.1 hdg ha (k ls g)) k
theorem gf_pop (hC : gOk X own cc) {a : Value} (hdg : decode cc pc = .ok (.pop, 1)) (ha : a.category = 1) (k : GF X M F t (pc + 1) lv (st)) : GF X M F t pc lv (a :: st) := by
  obtain ⟨p, l, e, R, s, m, args, below, meth, c⟩ := X
  exact gf_go (fun H locs cells slots Q ls g k => lv_pop hC.1 hC.2.1 hdg ha (k ls g)) k
theorem gf_dup_x1 (hC : gOk X own cc) {a b : Value} (hdg : decode cc pc = .ok (.dup_x1, 1)) (ha : a.category = 1) (hb : b.category = 1) (k : GF X M F t (pc + 1) lv (a :: b :: a :: st)) : GF X M F t pc lv (a :: b :: st) := by
  obtain ⟨p, l, e, R, s, m, args, below, meth, c⟩ := X
  exact gf_go (fun H locs cells slots Q ls g k => lv_dup_x1 hC.1 hC.2.1 hdg ha hb (k ls g)) k
theorem gf_dup_x2 (hC : gOk X own cc) {a b d : Value} (hdg : decode cc pc = .ok (.dup_x2, 1)) (ha : a.category = 1) (hb : b.category = 1) (hd : d.category = 1) (k : GF X M F t (pc + 1) lv (a :: b :: d :: a :: st)) : GF X M F t pc lv (a :: b :: d :: st) := by
  obtain ⟨p, l, e, R, s, m, args, below, meth, c⟩ := X
  exact gf_go (fun H locs cells slots Q ls g k => lv_dup_x2 hC.1 hC.2.1 hdg ha hb hd (k ls g)) k
theorem gf_dup2 (hC : gOk X own cc) {a b : Value} (hdg : decode cc pc = .ok (.dup2, 1)) (ha : a.category = 1) (hb : b.category = 1) (k : GF X M F t (pc + 1) lv (a :: b :: a :: b :: st)) : GF X M F t pc lv (a :: b :: st) := by
  obtain ⟨p, l, e, R, s, m, args, below, meth, c⟩ := X
  exact gf_go (fun H locs cells slots Q ls g k => lv_dup2_11 hC.1 hC.2.1 hdg ha hb (k ls g)) k
theorem gf_goto (hC : gOk X own cc) {off : Int} {tgt : Nat} (hdg : decode cc pc = .ok (.goto off, 3)) (ht : (pc : Int) + off = (tgt : Int)) (k : GF X M F t tgt lv st) : GF X M F t pc lv st := by
  obtain ⟨p, l, e, R, s, m, args, below, meth, c⟩ := X
  exact gf_go (fun H locs cells slots Q ls g k => lv_goto hC.1 hC.2.1 hdg ht (k ls g)) k
/-- a branch -/
theorem gf_br {q : Prop} [Decidable q] {tgt pc2 : Nat} (hh : ∀ (H : Heap) (locs : List Loc) (cells slots : Nat) (Q : State → Prop) (ls : Array Slot), gHas ls M.1 lv → (q → gW X H locs cells slots Q (F0 (gMe X) tgt ls st')) → (¬ q → gW X H locs cells slots Q (F0 (gMe X) pc2 ls st')) → gW X H locs cells slots Q (F0 (gMe X) pc ls st))
    (ka : GF X M A t tgt lv st') (kb : GF X M B t pc2 lv st') : GF X M (if q then A else B) t pc lv st := by
  intro r t' h
  by_cases hq : q
  · rw [if_pos hq] at h
    obtain ⟨h1, h2⟩ := ka r t' h
    exact ⟨h1, fun mc ms cells slots H locs ls a b c d e f g => hh H locs cells slots _ ls g (fun _ => h2 mc ms cells slots H locs ls a b c d e f g) (fun n => absurd hq n)⟩
  · rw [if_neg hq] at h
    obtain ⟨h1, h2⟩ := kb r t' h
    exact ⟨h1, fun mc ms cells slots H locs ls a b c d e f g => hh H locs cells slots _ ls g (fun n => absurd n hq) (fun _ => h2 mc ms cells slots H locs ls a b c d e f g)⟩
theorem gf_icmp_eq (hC : gOk X own cc) {x y : Int32} {off : Int} {tgt : Nat} (hdg : decode cc pc = .ok (.if_icmp .eq off, 3)) (ht : (pc : Int) + off = (tgt : Int)) (ka : GF X M A t (tgt) lv st) (kb : GF X M B t (pc + 3) lv st) : GF X M (if x = y then A else B) t pc lv (.int y :: .int x :: st) := by
  obtain ⟨p, l, e, R, s, m, args, below, meth, c⟩ := X
  exact gf_br (fun H locs cells slots Q ls g a b => lv_icmp_eq hC.1 hC.2.1 hdg ht (fun h => a h) (fun h => b h)) ka kb
theorem gf_icmp_ne (hC : gOk X own cc) {x y : Int32} {off : Int} {tgt : Nat} (hdg : decode cc pc = .ok (.if_icmp .ne off, 3)) (ht : (pc : Int) + off = (tgt : Int)) (ka : GF X M A t (pc + 3) lv st) (kb : GF X M B t (tgt) lv st) : GF X M (if x = y then A else B) t pc lv (.int y :: .int x :: st) := by
  obtain ⟨p, l, e, R, s, m, args, below, meth, c⟩ := X
  exact gf_br (fun H locs cells slots Q ls g a b => lv_icmp_ne hC.1 hC.2.1 hdg ht (fun h => b h) (fun h => a h)) ka kb
theorem gf_icmp_lt (hC : gOk X own cc) {x y : Int32} {off : Int} {tgt : Nat} (hdg : decode cc pc = .ok (.if_icmp .lt off, 3)) (ht : (pc : Int) + off = (tgt : Int)) (ka : GF X M A t (tgt) lv st) (kb : GF X M B t (pc + 3) lv st) : GF X M (if x < y then A else B) t pc lv (.int y :: .int x :: st) := by
  obtain ⟨p, l, e, R, s, m, args, below, meth, c⟩ := X
  exact gf_br (fun H locs cells slots Q ls g a b => lv_icmp_lt hC.1 hC.2.1 hdg ht (fun h => a h) (fun h => b h)) ka kb
theorem gf_icmp_ge (hC : gOk X own cc) {x y : Int32} {off : Int} {tgt : Nat} (hdg : decode cc pc = .ok (.if_icmp .ge off, 3)) (ht : (pc : Int) + off = (tgt : Int)) (ka : GF X M A t (pc + 3) lv st) (kb : GF X M B t (tgt) lv st) : GF X M (if x < y then A else B) t pc lv (.int y :: .int x :: st) := by
  obtain ⟨p, l, e, R, s, m, args, below, meth, c⟩ := X
  exact gf_br (fun H locs cells slots Q ls g a b => lv_icmp_ge hC.1 hC.2.1 hdg ht (fun h => b (Int32.not_lt.mpr h)) (fun h => a (Int32.not_le.mp h))) ka kb
theorem gf_icmp_gt (hC : gOk X own cc) {x y : Int32} {off : Int} {tgt : Nat} (hdg : decode cc pc = .ok (.if_icmp .gt off, 3)) (ht : (pc : Int) + off = (tgt : Int)) (ka : GF X M A t (tgt) lv st) (kb : GF X M B t (pc + 3) lv st) : GF X M (if y < x then A else B) t pc lv (.int y :: .int x :: st) := by
  obtain ⟨p, l, e, R, s, m, args, below, meth, c⟩ := X
  exact gf_br (fun H locs cells slots Q ls g a b => lv_icmp_gt hC.1 hC.2.1 hdg ht (fun h => a h) (fun h => b h)) ka kb
theorem gf_icmp_le (hC : gOk X own cc) {x y : Int32} {off : Int} {tgt : Nat} (hdg : decode cc pc = .ok (.if_icmp .le off, 3)) (ht : (pc : Int) + off = (tgt : Int)) (ka : GF X M A t (pc + 3) lv st) (kb : GF X M B t (tgt) lv st) : GF X M (if y < x then A else B) t pc lv (.int y :: .int x :: st) := by
  obtain ⟨p, l, e, R, s, m, args, below, meth, c⟩ := X
  exact gf_br (fun H locs cells slots Q ls g a b => lv_icmp_le hC.1 hC.2.1 hdg ht (fun h => b (Int32.not_lt.mpr h)) (fun h => a (Int32.not_le.mp h))) ka kb
theorem gf_if_eq (hC : gOk X own cc) {x : Int32} {off : Int} {tgt : Nat} (hdg : decode cc pc = .ok (.ifCond .eq off, 3)) (ht : (pc : Int) + off = (tgt : Int)) (ka : GF X M A t (tgt) lv st) (kb : GF X M B t (pc + 3) lv st) : GF X M (if x = 0 then A else B) t pc lv (.int x :: st) := by
  obtain ⟨p, l, e, R, s, m, args, below, meth, c⟩ := X
  exact gf_br (fun H locs cells slots Q ls g a b => lv_if_eq hC.1 hC.2.1 hdg ht (fun h => a h) (fun h => b h)) ka kb
theorem gf_if_ne (hC : gOk X own cc) {x : Int32} {off : Int} {tgt : Nat} (hdg : decode cc pc = .ok (.ifCond .ne off, 3)) (ht : (pc : Int) + off = (tgt : Int)) (ka : GF X M A t (pc + 3) lv st) (kb : GF X M B t (tgt) lv st) : GF X M (if x = 0 then A else B) t pc lv (.int x :: st) := by
  obtain ⟨p, l, e, R, s, m, args, below, meth, c⟩ := X
  exact gf_br (fun H locs cells slots Q ls g a b => lv_if_ne hC.1 hC.2.1 hdg ht (fun h => b h) (fun h => a h)) ka kb
theorem gf_if_lt (hC : gOk X own cc) {x : Int32} {off : Int} {tgt : Nat} (hdg : decode cc pc = .ok (.ifCond .lt off, 3)) (ht : (pc : Int) + off = (tgt : Int)) (ka : GF X M A t (tgt) lv st) (kb : GF X M B t (pc + 3) lv st) : GF X M (if x < 0 then A else B) t pc lv (.int x :: st) := by
  obtain ⟨p, l, e, R, s, m, args, below, meth, c⟩ := X
  exact gf_br (fun H locs cells slots Q ls g a b => lv_if_lt hC.1 hC.2.1 hdg ht (fun h => a h) (fun h => b h)) ka kb
theorem gf_if_ge (hC : gOk X own cc) {x : Int32} {off : Int} {tgt : Nat} (hdg : decode cc pc = .ok (.ifCond .ge off, 3)) (ht : (pc : Int) + off = (tgt : Int)) (ka : GF X M A t (pc + 3) lv st) (kb : GF X M B t (tgt) lv st) : GF X M (if x < 0 then A else B) t pc lv (.int x :: st) := by
  obtain ⟨p, l, e, R, s, m, args, below, meth, c⟩ := X
  exact gf_br (fun H locs cells slots Q ls g a b => lv_if_ge hC.1 hC.2.1 hdg ht (fun h => b (Int32.not_lt.mpr h)) (fun h => a (Int32.not_le.mp h))) ka kb
theorem gf_if_gt (hC : gOk X own cc) {x : Int32} {off : Int} {tgt : Nat} (hdg : decode cc pc = .ok (.ifCond .gt off, 3)) (ht : (pc : Int) + off = (tgt : Int)) (ka : GF X M A t (tgt) lv st) (kb : GF X M B t (pc + 3) lv st) : GF X M (if 0 < x then A else B) t pc lv (.int x :: st) := by
  obtain ⟨p, l, e, R, s, m, args, below, meth, c⟩ := X
  exact gf_br (fun H locs cells slots Q ls g a b => lv_if_gt hC.1 hC.2.1 hdg ht (fun h => a h) (fun h => b h)) ka kb
theorem gf_if_le (hC : gOk X own cc) {x : Int32} {off : Int} {tgt : Nat} (hdg : decode cc pc = .ok (.ifCond .le off, 3)) (ht : (pc : Int) + off = (tgt : Int)) (ka : GF X M A t (pc + 3) lv st) (kb : GF X M B t (tgt) lv st) : GF X M (if 0 < x then A else B) t pc lv (.int x :: st) := by
  obtain ⟨p, l, e, R, s, m, args, below, meth, c⟩ := X
  exact gf_br (fun H locs cells slots Q ls g a b => lv_if_le hC.1 hC.2.1 hdg ht (fun h => b (Int32.not_lt.mpr h)) (fun h => a (Int32.not_le.mp h))) ka kb
/-- a switch: by keys -/
def gsw {β : Type} (x : Int32) : List (Int32 × β) → β → β
  | [], d => d
  | (k, a) :: r, d => if x = k then a else gsw x r d
def tswOk (X : gCx) (M : gMd S α) (t : S) (pc : Nat) (lv : List (Nat × Value)) (st : List Value) : Int → List Int → List (Int32 × Option (α × S)) → Prop
  | _, [], [] => True
  | i, o :: os, (k, a) :: ks => (k.toInt = i ∧ ∃ tgt : Nat, (pc : Int) + o = (tgt : Int) ∧ GF X M a t tgt lv st) ∧ tswOk X M t pc lv st (i + 1) os ks
  | _, _, _ => False
theorem tsw_in {x : Int32} {D : Option (α × S)} : ∀ (os : List Int) (ks : List (Int32 × Option (α × S))) (i : Int), tswOk X M t pc lv st i os ks → i ≤ x.toInt → x.toInt < i + os.length → ∃ (o : Int) (tgt : Nat) (a : Option (α × S)), os[(x.toInt - i).toNat]? = some o ∧ (pc : Int) + o = (tgt : Int) ∧ gsw x ks D = a ∧ GF X M a t tgt lv st
  | [], _, i, _, h1, h2 => by simp at h2; omega
  | o :: os, [], i, h, _, _ => by exact h.elim
  | o :: os, (k, a) :: ks, i, h, h1, h2 => by
    obtain ⟨⟨hk, tgt, ht, hg⟩, hr⟩ := h
    by_cases e : x = k
    · refine ⟨o, tgt, a, ?_, ht, ?_, hg⟩
      · have : x.toInt - i = 0 := by rw [e, hk]; omega
        rw [this]; rfl
      · unfold gsw; rw [if_pos e]
    · have hne : x.toInt ≠ i := fun q => e (Int32.toInt_inj.mp (by rw [hk]; exact q))
      obtain ⟨o', tgt', a', q1, q2, q3, q4⟩ := tsw_in (x := x) (D := D) os ks (i + 1) hr (by omega) (by simp at h2; omega)
      refine ⟨o', tgt', a', ?_, q2, ?_, q4⟩
      · have : (x.toInt - i).toNat = (x.toInt - (i + 1)).toNat + 1 := by omega
        rw [this, List.getElem?_cons_succ]; exact q1
      · unfold gsw; rw [if_neg e]; exact q3
theorem tsw_out {x : Int32} {D : Option (α × S)} : ∀ (os : List Int) (ks : List (Int32 × Option (α × S))) (i : Int), tswOk X M t pc lv st i os ks → (x.toInt < i ∨ i + os.length ≤ x.toInt) → gsw x ks D = D
  | [], [], i, _, _ => rfl
  | [], _ :: _, i, h, _ => by exact h.elim
  | o :: os, [], i, h, _ => by exact h.elim
  | o :: os, (k, a) :: ks, i, h, h1 => by
    obtain ⟨⟨hk, -⟩, hr⟩ := h
    have hne : ¬ x = k := fun q => by rw [q, hk] at h1; simp at h1; omega
    unfold gsw; rw [if_neg hne]
    exact tsw_out (x := x) (D := D) os ks (i + 1) hr (by simp at h1; omega)
theorem gf_tsw (hC : gOk X own cc) {x : Int32} {dflt lo hi : Int} {offs : Array Int} {len dt : Nat} {ks : List (Int32 × Option (α × S))} {D : Option (α × S)} (hdg : decode cc pc = .ok (.tableswitch dflt lo hi offs, len)) (hsz : hi + 1 = lo + offs.toList.length) (hd : (pc : Int) + dflt = (dt : Int))
    (hk : tswOk X M t pc lv st lo offs.toList ks) (kd : GF X M D t dt lv st) : GF X M (gsw x ks D) t pc lv (.int x :: st) := by
  intro r t' h
  by_cases hx : x.toInt < lo ∨ hi < x.toInt
  · rw [tsw_out offs.toList ks lo hk (by omega)] at h
    obtain ⟨h1, h2⟩ := kd r t' h
    refine ⟨h1, fun mc ms cells slots H locs ls a b c d e f g => ?_⟩
    have k := h2 mc ms cells slots H locs ls a b c d e f g
    obtain ⟨p, l, e, R, s, m, args, below, meth, c⟩ := X
    exact lv_tableOut hC.1 hC.2.1 hdg hx hd k
  · obtain ⟨o, tgt, a, q1, q2, q3, q4⟩ := tsw_in (x := x) (D := D) offs.toList ks lo hk (by omega) (by omega)
    rw [q3] at h
    obtain ⟨h1, h2⟩ := q4 r t' h
    refine ⟨h1, fun mc ms cells slots H locs ls a b c d e f g => ?_⟩
    have k := h2 mc ms cells slots H locs ls a b c d e f g
    obtain ⟨p, l, e, R, s, m, args, below, meth, c⟩ := X
    exact lv_tableIn hC.1 hC.2.1 hdg (by omega) (by omega) (by rw [← Array.getElem?_toList]; exact q1) q2 k
end GFA
