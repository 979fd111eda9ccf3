/-! the shared rows over the component's heap -/
def refV (v : Value) : Prop := v = .null ∨ ∃ a, v = .ref a
theorem refV_x (x : Option Nat) : refV (vr x) := by cases x with
  | none => exact Or.inl rfl
  | some a => exact Or.inr ⟨a, rfl⟩
theorem refV_a (a : Nat) : refV (.ref a) := Or.inr ⟨a, rfl⟩
section GCA
variable {α : Type} {X : gCx} {Y : cY} {M : cMd α} {F A B : Option (α × cS)} {s : cS} {pc : Nat} {lv lv' : List (Nat × Value)} {st st' : List Value} {own : String} {cc : ByteArray}
theorem gc_iconst (hC : gOk X own cc) {n : Int} (v : Int32) (hdg : decode cc pc = .ok (.iconst n, 1)) (hv : Int32.ofInt n = v) (k : GC X Y M F s (pc + 1) lv (.int v :: st)) : GC X Y M F s pc lv (st) := by
  obtain ⟨p, l, e, R, z, m, args, below, meth, c⟩ := X
  exact gc_go (lv' := lv) (st' := .int v :: st) (fun ad H locs cells slots Q ls g k => lv_iconst hC.1 hC.2.1 hdg hv (k ls g)) (fun h => h.cons trivial) k
theorem gc_bipush (hC : gOk X own cc) {n : Int} (v : Int32) (hdg : decode cc pc = .ok (.bipush n, 2)) (hv : (Int8.ofInt n).toInt32 = v) (k : GC X Y M F s (pc + 2) lv (.int v :: st)) : GC X Y M F s pc lv (st) := by
  obtain ⟨p, l, e, R, z, m, args, below, meth, c⟩ := X
  exact gc_go (lv' := lv) (st' := .int v :: st) (fun ad H locs cells slots Q ls g k => lv_bipush hC.1 hC.2.1 hdg hv (k ls g)) (fun h => h.cons trivial) k
theorem gc_sipush (hC : gOk X own cc) {n : Int} (v : Int32) (hdg : decode cc pc = .ok (.sipush n, 3)) (hv : (Int16.ofInt n).toInt32 = v) (k : GC X Y M F s (pc + 3) lv (.int v :: st)) : GC X Y M F s pc lv (st) := by
  obtain ⟨p, l, e, R, z, m, args, below, meth, c⟩ := X
  exact gc_go (lv' := lv) (st' := .int v :: st) (fun ad H locs cells slots Q ls g k => lv_sipush hC.1 hC.2.1 hdg hv (k ls g)) (fun h => h.cons trivial) k
theorem gc_ldc (hC : gOk X own cc) {index : Nat} (v : Int32) (hdg : decode cc pc = .ok (.ldc index, 2)) (hw : Cond.constant own index v ∈ lw_all) (k : GC X Y M F s (pc + 2) lv (.int v :: st)) : GC X Y M F s pc lv (st) := by
  obtain ⟨p, l, e, R, z, m, args, below, meth, c⟩ := X
  exact gc_go (lv' := lv) (st' := .int v :: st) (fun ad H locs cells slots Q ls g k => lv_ldc hC.1 hC.2.1 hC.2.2.1 (hC.2.2.2.1 _ hw) hdg (k ls g)) (fun h => h.cons trivial) k
theorem gc_ldcw (hC : gOk X own cc) {index : Nat} (v : Int32) (hdg : decode cc pc = .ok (.ldc_w index, 3)) (hw : Cond.constant own index v ∈ lw_all) (k : GC X Y M F s (pc + 3) lv (.int v :: st)) : GC X Y M F s pc lv (st) := by
  obtain ⟨p, l, e, R, z, m, args, below, meth, c⟩ := X
  exact gc_go (lv' := lv) (st' := .int v :: st) (fun ad H locs cells slots Q ls g k => lv_ldcw hC.1 hC.2.1 hC.2.2.1 (hC.2.2.2.1 _ hw) hdg (k ls g)) (fun h => h.cons trivial) k
theorem gc_ldc2 (hC : gOk X own cc) {index : Nat} (v : Int64) (hdg : decode cc pc = .ok (.ldc2_w index, 3)) (hw : Cond.constantLong own index v ∈ lw_all) (k : GC X Y M F s (pc + 3) lv (.long v :: st)) : GC X Y M F s pc lv (st) := by
  obtain ⟨p, l, e, R, z, m, args, below, meth, c⟩ := X
  exact gc_go (lv' := lv) (st' := .long v :: st) (fun ad H locs cells slots Q ls g k => lv_ldc2 hC.1 hC.2.1 hC.2.2.1 (hC.2.2.2.1 _ hw) hdg (k ls g)) (fun h => h.cons trivial) k
theorem gc_null (hC : gOk X own cc) (hdg : decode cc pc = .ok (.aconst_null, 1)) (k : GC X Y M F s (pc + 1) lv (.null :: st)) : GC X Y M F s pc lv (st) := by
  obtain ⟨p, l, e, R, z, m, args, below, meth, c⟩ := X
  exact gc_go (lv' := lv) (st' := .null :: st) (fun ad H locs cells slots Q ls g k => lv_null hC.1 hC.2.1 hdg (k ls g)) (fun h => h.cons trivial) k
theorem gc_iload_n (hC : gOk X own cc) {j : Fin 4} {i : Nat} {x : Int32} (hdg : decode cc pc = .ok (.iload_n j, 1)) (hi : (j : Nat) = i) (hl : lget lv i = some (.int x)) (k : GC X Y M F s (pc + 1) lv (.int x :: st)) : GC X Y M F s pc lv (st) := by
  obtain ⟨p, l, e, R, z, m, args, below, meth, c⟩ := X
  exact gc_go (lv' := lv) (st' := .int x :: st) (fun ad H locs cells slots Q ls g k => lv_iload_n hC.1 hC.2.1 hdg hi (g.get (by rw [lget_map, hl]; rfl)) (k ls g)) (fun h => h.cons trivial) k
theorem gc_iload (hC : gOk X own cc) {i : Nat} {x : Int32} (hdg : decode cc pc = .ok (.iload i, 2)) (hl : lget lv i = some (.int x)) (k : GC X Y M F s (pc + 2) lv (.int x :: st)) : GC X Y M F s pc lv (st) := by
  obtain ⟨p, l, e, R, z, m, args, below, meth, c⟩ := X
  exact gc_go (lv' := lv) (st' := .int x :: st) (fun ad H locs cells slots Q ls g k => lv_iload hC.1 hC.2.1 hdg (g.get (by rw [lget_map, hl]; rfl)) (k ls g)) (fun h => h.cons trivial) k
theorem gc_aload_n (hC : gOk X own cc) {j : Fin 4} {i : Nat} {v : Value} (hv : refV v) (hdg : decode cc pc = .ok (.aload_n j, 1)) (hi : (j : Nat) = i) (hl : lget lv i = some v) (k : GC X Y M F s (pc + 1) lv (v :: st)) : GC X Y M F s pc lv st := by
  obtain ⟨p, l, e, R, z, m, args, below, meth, c⟩ := X
  rcases hv with rfl | ⟨a, rfl⟩
  · exact gc_go (lv' := lv) (st' := .null :: st) (fun ad H locs cells slots Q ls g k => lv_aload_nN hC.1 hC.2.1 hdg hi (g.get (by rw [lget_map, hl]; rfl)) (k ls g)) (fun h => h.cons (h.get hl)) k
  · exact gc_go (lv' := lv) (st' := .ref a :: st) (fun ad H locs cells slots Q ls g k => lv_aload_n hC.1 hC.2.1 hdg hi (g.get (by rw [lget_map, hl]; rfl)) (k ls g)) (fun h => h.cons (h.get hl)) k
theorem gc_aload (hC : gOk X own cc) {i : Nat} {v : Value} (hv : refV v) (hdg : decode cc pc = .ok (.aload i, 2)) (hl : lget lv i = some v) (k : GC X Y M F s (pc + 2) lv (v :: st)) : GC X Y M F s pc lv st := by
  obtain ⟨p, l, e, R, z, m, args, below, meth, c⟩ := X
  rcases hv with rfl | ⟨a, rfl⟩
  · exact gc_go (lv' := lv) (st' := .null :: st) (fun ad H locs cells slots Q ls g k => lv_aloadN hC.1 hC.2.1 hdg (g.get (by rw [lget_map, hl]; rfl)) (k ls g)) (fun h => h.cons (h.get hl)) k
  · exact gc_go (lv' := lv) (st' := .ref a :: st) (fun ad H locs cells slots Q ls g k => lv_aload hC.1 hC.2.1 hdg (g.get (by rw [lget_map, hl]; rfl)) (k ls g)) (fun h => h.cons (h.get hl)) k
theorem gc_istore_n (hC : gOk X own cc) {j : Fin 4} {i : Nat} {x : Int32} (hdg : decode cc pc = .ok (.istore_n j, 1)) (hi : (j : Nat) = i) (hn : i < M.1) (hl : lput i (.int x) lv = lv') (k : GC X Y M F s (pc + 1) lv' st) : GC X Y M F s pc lv (.int x :: st) := by
  obtain ⟨p, l, e, R, z, m, args, below, meth, c⟩ := X
  subst hl
  exact gc_go (lv' := lput i (.int x) lv) (st' := st) (fun ad H locs cells slots Q ls g k => lv_istore_n hC.1 hC.2.1 hdg hi g.1 hn rfl (fun ls' h' => k ls' (by rw [← lput_map]; exact g.put rfl rfl h'))) (fun h => h.put _ rfl) k
theorem gc_istore (hC : gOk X own cc) {i : Nat} {x : Int32} (hdg : decode cc pc = .ok (.istore i, 2)) (hn : i < M.1) (hl : lput i (.int x) lv = lv') (k : GC X Y M F s (pc + 2) lv' st) : GC X Y M F s pc lv (.int x :: st) := by
  obtain ⟨p, l, e, R, z, m, args, below, meth, c⟩ := X
  subst hl
  exact gc_go (lv' := lput i (.int x) lv) (st' := st) (fun ad H locs cells slots Q ls g k => lv_istore hC.1 hC.2.1 hdg g.1 hn rfl (fun ls' h' => k ls' (by rw [← lput_map]; exact g.put rfl rfl h'))) (fun h => h.put _ rfl) k
theorem gc_astore_n (hC : gOk X own cc) {j : Fin 4} {i : Nat} {v : Value} (hv : refV v) (hdg : decode cc pc = .ok (.astore_n j, 1)) (hi : (j : Nat) = i) (hn : i < M.1) (hl : lput i v lv = lv') (k : GC X Y M F s (pc + 1) lv' st) : GC X Y M F s pc lv (v :: st) := by
  obtain ⟨p, l, e, R, z, m, args, below, meth, c⟩ := X
  subst hl
  rcases hv with rfl | ⟨a, rfl⟩
  · exact gc_go (lv' := lput i .null lv) (st' := st) (fun ad H locs cells slots Q ls g k => lv_astore_nN hC.1 hC.2.1 hdg hi g.1 hn rfl (fun ls' h' => k ls' (by rw [← lput_map]; exact g.put rfl rfl h'))) (fun h => h.put _ rfl) k
  · exact gc_go (lv' := lput i (.ref a) lv) (st' := st) (fun ad H locs cells slots Q ls g k => lv_astore_n hC.1 hC.2.1 hdg hi g.1 hn rfl (fun ls' h' => k ls' (by rw [← lput_map]; exact g.put rfl rfl h'))) (fun h => h.put _ rfl) k
theorem gc_astore (hC : gOk X own cc) {i : Nat} {v : Value} (hv : refV v) (hdg : decode cc pc = .ok (.astore i, 2)) (hn : i < M.1) (hl : lput i v lv = lv') (k : GC X Y M F s (pc + 2) lv' st) : GC X Y M F s pc lv (v :: st) := by
  obtain ⟨p, l, e, R, z, m, args, below, meth, c⟩ := X
  subst hl
  rcases hv with rfl | ⟨a, rfl⟩
  · exact gc_go (lv' := lput i .null lv) (st' := st) (fun ad H locs cells slots Q ls g k => lv_astoreN hC.1 hC.2.1 hdg g.1 hn rfl (fun ls' h' => k ls' (by rw [← lput_map]; exact g.put rfl rfl h'))) (fun h => h.put _ rfl) k
  · exact gc_go (lv' := lput i (.ref a) lv) (st' := st) (fun ad H locs cells slots Q ls g k => lv_astore hC.1 hC.2.1 hdg g.1 hn rfl (fun ls' h' => k ls' (by rw [← lput_map]; exact g.put rfl rfl h'))) (fun h => h.put _ rfl) k
theorem gc_letiinc (hC : gOk X own cc) {i : Nat} {n : Int} {x c : Int32} {lv' : Int32 → List (Nat × Value)} {f : Int32 → Option (α × cS)} (hdg : decode cc pc = .ok (.iinc i n, 3)) (hg : lget lv i = some (.int x)) (hc : Int32.ofInt n = c) (hn : i < M.1) (hl : ∀ y : Int32, lput i (.int y) lv = lv' y) (k : ∀ y : Int32, GC X Y M (f y) s (pc + 3) (lv' y) st) : GC X Y M (letv (x + c) f) s pc lv st := by
  have kk := k (x + c)
  rw [← hl] at kk
  obtain ⟨p, l, e, R, z, m, args, below, meth, cd⟩ := X
  subst hc
  refine gc_go (lv' := lput i (.int (x + Int32.ofInt n)) lv) (st' := st) (fun ad H locs cells slots Q ls g k => ?_) (fun h => ⟨fun q hq => ?_, h.2⟩) kk
  · have hg' : lget (lmap ad lv) i = some (.int x) := by rw [lget_map, hg]; rfl
    obtain ⟨j, hj⟩ := lget_idx hg'
    exact lv_iinc hC.1 hC.2.1 hdg g.1 hj rfl hn rfl (fun ls' h' => k ls' (by rw [← lput_map]; exact g.put rfl rfl h'))
  · rcases lput_mem hq with e | e
    · rw [e]; trivial
    · exact h.1 q e.1
theorem gc_iadd (hC : gOk X own cc) {x y : Int32} (hdg : decode cc pc = .ok (.iadd, 1)) (k : GC X Y M F s (pc + 1) lv (.int (x + y) :: st)) : GC X Y M F s pc lv (.int y :: .int x :: st) := by
  obtain ⟨p, l, e, R, z, m, args, below, meth, c⟩ := X
  exact gc_go (lv' := lv) (st' := .int (x + y) :: st) (fun ad H locs cells slots Q ls g k => lv_iadd hC.1 hC.2.1 hdg (k ls g)) (fun h => h.tail.tail.cons trivial) k
theorem gc_isub (hC : gOk X own cc) {x y : Int32} (hdg : decode cc pc = .ok (.isub, 1)) (k : GC X Y M F s (pc + 1) lv (.int (x - y) :: st)) : GC X Y M F s pc lv (.int y :: .int x :: st) := by
  obtain ⟨p, l, e, R, z, m, args, below, meth, c⟩ := X
  exact gc_go (lv' := lv) (st' := .int (x - y) :: st) (fun ad H locs cells slots Q ls g k => lv_isub hC.1 hC.2.1 hdg (k ls g)) (fun h => h.tail.tail.cons trivial) k
theorem gc_imul (hC : gOk X own cc) {x y : Int32} (hdg : decode cc pc = .ok (.imul, 1)) (k : GC X Y M F s (pc + 1) lv (.int (x * y) :: st)) : GC X Y M F s pc lv (.int y :: .int x :: st) := by
  obtain ⟨p, l, e, R, z, m, args, below, meth, c⟩ := X
  exact gc_go (lv' := lv) (st' := .int (x * y) :: st) (fun ad H locs cells slots Q ls g k => lv_imul hC.1 hC.2.1 hdg (k ls g)) (fun h => h.tail.tail.cons trivial) k
theorem gc_iand (hC : gOk X own cc) {x y : Int32} (hdg : decode cc pc = .ok (.iand, 1)) (k : GC X Y M F s (pc + 1) lv (.int (x &&& y) :: st)) : GC X Y M F s pc lv (.int y :: .int x :: st) := by
  obtain ⟨p, l, e, R, z, m, args, below, meth, c⟩ := X
  exact gc_go (lv' := lv) (st' := .int (x &&& y) :: st) (fun ad H locs cells slots Q ls g k => lv_iand hC.1 hC.2.1 hdg (k ls g)) (fun h => h.tail.tail.cons trivial) k
theorem gc_ior (hC : gOk X own cc) {x y : Int32} (hdg : decode cc pc = .ok (.ior, 1)) (k : GC X Y M F s (pc + 1) lv (.int (x ||| y) :: st)) : GC X Y M F s pc lv (.int y :: .int x :: st) := by
  obtain ⟨p, l, e, R, z, m, args, below, meth, c⟩ := X
  exact gc_go (lv' := lv) (st' := .int (x ||| y) :: st) (fun ad H locs cells slots Q ls g k => lv_ior hC.1 hC.2.1 hdg (k ls g)) (fun h => h.tail.tail.cons trivial) k
theorem gc_ixor (hC : gOk X own cc) {x y : Int32} (hdg : decode cc pc = .ok (.ixor, 1)) (k : GC X Y M F s (pc + 1) lv (.int (x ^^^ y) :: st)) : GC X Y M F s pc lv (.int y :: .int x :: st) := by
  obtain ⟨p, l, e, R, z, m, args, below, meth, c⟩ := X
  exact gc_go (lv' := lv) (st' := .int (x ^^^ y) :: st) (fun ad H locs cells slots Q ls g k => lv_ixor hC.1 hC.2.1 hdg (k ls g)) (fun h => h.tail.tail.cons trivial) k
theorem gc_ishl (hC : gOk X own cc) {x y : Int32} (hdg : decode cc pc = .ok (.ishl, 1)) (k : GC X Y M F s (pc + 1) lv (.int (ishl32 x y) :: st)) : GC X Y M F s pc lv (.int y :: .int x :: st) := by
  obtain ⟨p, l, e, R, z, m, args, below, meth, c⟩ := X
  exact gc_go (lv' := lv) (st' := .int (ishl32 x y) :: st) (fun ad H locs cells slots Q ls g k => lv_ishl hC.1 hC.2.1 hdg (k ls g)) (fun h => h.tail.tail.cons trivial) k
theorem gc_ishr (hC : gOk X own cc) {x y : Int32} (hdg : decode cc pc = .ok (.ishr, 1)) (k : GC X Y M F s (pc + 1) lv (.int (ishr32 x y) :: st)) : GC X Y M F s pc lv (.int y :: .int x :: st) := by
  obtain ⟨p, l, e, R, z, m, args, below, meth, c⟩ := X
  exact gc_go (lv' := lv) (st' := .int (ishr32 x y) :: st) (fun ad H locs cells slots Q ls g k => lv_ishr hC.1 hC.2.1 hdg (k ls g)) (fun h => h.tail.tail.cons trivial) k
theorem gc_iushr (hC : gOk X own cc) {x y : Int32} (hdg : decode cc pc = .ok (.iushr, 1)) (k : GC X Y M F s (pc + 1) lv (.int (iushr32 x y) :: st)) : GC X Y M F s pc lv (.int y :: .int x :: st) := by
  obtain ⟨p, l, e, R, z, m, args, below, meth, c⟩ := X
  exact gc_go (lv' := lv) (st' := .int (iushr32 x y) :: st) (fun ad H locs cells slots Q ls g k => lv_iushr hC.1 hC.2.1 hdg rfl (k ls g)) (fun h => h.tail.tail.cons trivial) k
theorem gc_lmul (hC : gOk X own cc) {x y : Int64} (hdg : decode cc pc = .ok (.lmul, 1)) (k : GC X Y M F s (pc + 1) lv (.long (x * y) :: st)) : GC X Y M F s pc lv (.long y :: .long x :: st) := by
  obtain ⟨p, l, e, R, z, m, args, below, meth, c⟩ := X
  exact gc_go (lv' := lv) (st' := .long (x * y) :: st) (fun ad H locs cells slots Q ls g k => lv_lmul hC.1 hC.2.1 hdg (k ls g)) (fun h => h.tail.tail.cons trivial) k
theorem gc_ineg (hC : gOk X own cc) {x : Int32} (hdg : decode cc pc = .ok (.ineg, 1)) (k : GC X Y M F s (pc + 1) lv (.int (-x) :: st)) : GC X Y M F s pc lv (.int x :: st) := by
  obtain ⟨p, l, e, R, z, m, args, below, meth, c⟩ := X
  exact gc_go (lv' := lv) (st' := .int (-x) :: st) (fun ad H locs cells slots Q ls g k => lv_ineg hC.1 hC.2.1 hdg (k ls g)) (fun h => h.tail.cons trivial) k
theorem gc_i2b (hC : gOk X own cc) {x : Int32} (hdg : decode cc pc = .ok (.i2b, 1)) (k : GC X Y M F s (pc + 1) lv (.int x.toInt8.toInt32 :: st)) : GC X Y M F s pc lv (.int x :: st) := by
  obtain ⟨p, l, e, R, z, m, args, below, meth, c⟩ := X
  exact gc_go (lv' := lv) (st' := .int x.toInt8.toInt32 :: st) (fun ad H locs cells slots Q ls g k => lv_i2b hC.1 hC.2.1 hdg rfl (k ls g)) (fun h => h.tail.cons trivial) k
theorem gc_i2l (hC : gOk X own cc) {x : Int32} (hdg : decode cc pc = .ok (.i2l, 1)) (k : GC X Y M F s (pc + 1) lv (.long x.toInt64 :: st)) : GC X Y M F s pc lv (.int x :: st) := by
  obtain ⟨p, l, e, R, z, m, args, below, meth, c⟩ := X
  exact gc_go (lv' := lv) (st' := .long x.toInt64 :: st) (fun ad H locs cells slots Q ls g k => lv_i2l hC.1 hC.2.1 hdg rfl (k ls g)) (fun h => h.tail.cons trivial) k
theorem gc_idiv (hC : gOk X own cc) {x y : Int32} (hdg : decode cc pc = .ok (.idiv, 1)) (hne : ¬ y = 0) (k : GC X Y M F s (pc + 1) lv (.int (x / y) :: st)) : GC X Y M F s pc lv (.int y :: .int x :: st) := by
  obtain ⟨p, l, e, R, z, m, args, below, meth, c⟩ := X
  exact gc_go (lv' := lv) (st' := .int (x / y) :: st) (fun ad H locs cells slots Q ls g k => lv_idiv hC.1 hC.2.1 hdg hne (k ls g)) (fun h => h.tail.tail.cons trivial) k
theorem gc_irem (hC : gOk X own cc) {x y : Int32} (hdg : decode cc pc = .ok (.irem, 1)) (hne : ¬ y = 0) (k : GC X Y M F s (pc + 1) lv (.int (irm x y) :: st)) : GC X Y M F s pc lv (.int y :: .int x :: st) := by
  obtain ⟨p, l, e, R, z, m, args, below, meth, c⟩ := X
  exact gc_go (lv' := lv) (st' := .int (irm x y) :: st) (fun ad H locs cells slots Q ls g k => lv_irem hC.1 hC.2.1 hdg hne (k ls g)) (fun h => h.tail.tail.cons trivial) k
theorem gc_dup (hC : gOk X own cc) {a : Value} (hdg : decode cc pc = .ok (.dup, 1)) (ha : a.category = 1) (k : GC X Y M F s (pc + 1) lv (a :: a :: st)) : GC X Y M F s pc lv (a :: st) := by
  obtain ⟨p, l, e, R, z, m, args, below, meth, c⟩ := X
  exact gc_go (lv' := lv) (st' := a :: a :: st) (fun ad H locs cells slots Q ls g k => lv_dup hC.1 hC.2.1 hdg (by rw [tv_cat]; exact ha) (k ls g)) (fun h => h.cons h.head) k
theorem gc_pop (hC : gOk X own cc) {a : Value} (hdg : decode cc pc = .ok (.pop, 1)) (ha : a.category = 1) (k : GC X Y M F s (pc + 1) lv (st)) : GC X Y M F s pc lv (a :: st) := by
  obtain ⟨p, l, e, R, z, m, args, below, meth, c⟩ := X
  exact gc_go (lv' := lv) (st' := st) (fun ad H locs cells slots Q ls g k => lv_pop hC.1 hC.2.1 hdg (by rw [tv_cat]; exact ha) (k ls g)) (fun h => h.tail) k
theorem gc_dup_x1 (hC : gOk X own cc) {a b : Value} (hdg : decode cc pc = .ok (.dup_x1, 1)) (ha : a.category = 1) (hb : b.category = 1) (k : GC X Y M F s (pc + 1) lv (a :: b :: a :: st)) : GC X Y M F s pc lv (a :: b :: st) := by
  obtain ⟨p, l, e, R, z, m, args, below, meth, c⟩ := X
  exact gc_go (lv' := lv) (st' := a :: b :: a :: st) (fun ad H locs cells slots Q ls g k => lv_dup_x1 hC.1 hC.2.1 hdg (by rw [tv_cat]; exact ha) (by rw [tv_cat]; exact hb) (k ls g)) (fun h => (h.tail.tail.cons h.head).cons h.tail.head |>.cons h.head) k
theorem gc_dup_x2 (hC : gOk X own cc) {a b d : Value} (hdg : decode cc pc = .ok (.dup_x2, 1)) (ha : a.category = 1) (hb : b.category = 1) (hd : d.category = 1) (k : GC X Y M F s (pc + 1) lv (a :: b :: d :: a :: st)) : GC X Y M F s pc lv (a :: b :: d :: st) := by
  obtain ⟨p, l, e, R, z, m, args, below, meth, c⟩ := X
  exact gc_go (lv' := lv) (st' := a :: b :: d :: a :: st) (fun ad H locs cells slots Q ls g k => lv_dup_x2 hC.1 hC.2.1 hdg (by rw [tv_cat]; exact ha) (by rw [tv_cat]; exact hb) (by rw [tv_cat]; exact hd) (k ls g)) (fun h => (((h.tail.tail.tail.cons h.head).cons h.tail.tail.head).cons h.tail.head).cons h.head) k
theorem gc_dup2 (hC : gOk X own cc) {a b : Value} (hdg : decode cc pc = .ok (.dup2, 1)) (ha : a.category = 1) (hb : b.category = 1) (k : GC X Y M F s (pc + 1) lv (a :: b :: a :: b :: st)) : GC X Y M F s pc lv (a :: b :: st) := by
  obtain ⟨p, l, e, R, z, m, args, below, meth, c⟩ := X
  exact gc_go (lv' := lv) (st' := a :: b :: a :: b :: st) (fun ad H locs cells slots Q ls g k => lv_dup2_11 hC.1 hC.2.1 hdg (by rw [tv_cat]; exact ha) (by rw [tv_cat]; exact hb) (k ls g)) (fun h => (h.cons h.tail.head).cons h.head) k
theorem gc_goto (hC : gOk X own cc) {off : Int} {tgt : Nat} (hdg : decode cc pc = .ok (.goto off, 3)) (ht : (pc : Int) + off = (tgt : Int)) (k : GC X Y M F s (tgt) lv (st)) : GC X Y M F s pc lv (st) := by
  obtain ⟨p, l, e, R, z, m, args, below, meth, c⟩ := X
  exact gc_go (lv' := lv) (st' := st) (fun ad H locs cells slots Q ls g k => lv_goto hC.1 hC.2.1 hdg ht (k ls g)) (fun h => h) k
theorem gc_icmp_eq (hC : gOk X own cc) {x y : Int32} {off : Int} {tgt : Nat} (hdg : decode cc pc = .ok (.if_icmp .eq off, 3)) (ht : (pc : Int) + off = (tgt : Int)) (ka : GC X Y M A s (tgt) lv st) (kb : GC X Y M B s (pc + 3) lv st) : GC X Y M (if x = y then A else B) s pc lv (.int y :: .int x :: st) := by
  obtain ⟨p, l, e, R, z, m, args, below, meth, c⟩ := X
  exact gc_br (st' := st) (fun ad H locs cells slots Q ls g _ _ a b => lv_icmp_eq hC.1 hC.2.1 hdg ht (fun h => a h) (fun h => b h)) (fun h => h.tail.tail) ka kb
theorem gc_icmp_ne (hC : gOk X own cc) {x y : Int32} {off : Int} {tgt : Nat} (hdg : decode cc pc = .ok (.if_icmp .ne off, 3)) (ht : (pc : Int) + off = (tgt : Int)) (ka : GC X Y M A s (pc + 3) lv st) (kb : GC X Y M B s (tgt) lv st) : GC X Y M (if x = y then A else B) s pc lv (.int y :: .int x :: st) := by
  obtain ⟨p, l, e, R, z, m, args, below, meth, c⟩ := X
  exact gc_br (st' := st) (fun ad H locs cells slots Q ls g _ _ a b => lv_icmp_ne hC.1 hC.2.1 hdg ht (fun h => b h) (fun h => a h)) (fun h => h.tail.tail) ka kb
theorem gc_icmp_lt (hC : gOk X own cc) {x y : Int32} {off : Int} {tgt : Nat} (hdg : decode cc pc = .ok (.if_icmp .lt off, 3)) (ht : (pc : Int) + off = (tgt : Int)) (ka : GC X Y M A s (tgt) lv st) (kb : GC X Y M B s (pc + 3) lv st) : GC X Y M (if x < y then A else B) s pc lv (.int y :: .int x :: st) := by
  obtain ⟨p, l, e, R, z, m, args, below, meth, c⟩ := X
  exact gc_br (st' := st) (fun ad H locs cells slots Q ls g _ _ a b => lv_icmp_lt hC.1 hC.2.1 hdg ht (fun h => a h) (fun h => b h)) (fun h => h.tail.tail) ka kb
theorem gc_icmp_ge (hC : gOk X own cc) {x y : Int32} {off : Int} {tgt : Nat} (hdg : decode cc pc = .ok (.if_icmp .ge off, 3)) (ht : (pc : Int) + off = (tgt : Int)) (ka : GC X Y M A s (pc + 3) lv st) (kb : GC X Y M B s (tgt) lv st) : GC X Y M (if x < y then A else B) s pc lv (.int y :: .int x :: st) := by
  obtain ⟨p, l, e, R, z, m, args, below, meth, c⟩ := X
  exact gc_br (st' := st) (fun ad H locs cells slots Q ls g _ _ a b => lv_icmp_ge hC.1 hC.2.1 hdg ht (fun h => b (Int32.not_lt.mpr h)) (fun h => a (Int32.not_le.mp h))) (fun h => h.tail.tail) ka kb
theorem gc_icmp_gt (hC : gOk X own cc) {x y : Int32} {off : Int} {tgt : Nat} (hdg : decode cc pc = .ok (.if_icmp .gt off, 3)) (ht : (pc : Int) + off = (tgt : Int)) (ka : GC X Y M A s (tgt) lv st) (kb : GC X Y M B s (pc + 3) lv st) : GC X Y M (if y < x then A else B) s pc lv (.int y :: .int x :: st) := by
  obtain ⟨p, l, e, R, z, m, args, below, meth, c⟩ := X
  exact gc_br (st' := st) (fun ad H locs cells slots Q ls g _ _ a b => lv_icmp_gt hC.1 hC.2.1 hdg ht (fun h => a h) (fun h => b h)) (fun h => h.tail.tail) ka kb
theorem gc_icmp_le (hC : gOk X own cc) {x y : Int32} {off : Int} {tgt : Nat} (hdg : decode cc pc = .ok (.if_icmp .le off, 3)) (ht : (pc : Int) + off = (tgt : Int)) (ka : GC X Y M A s (pc + 3) lv st) (kb : GC X Y M B s (tgt) lv st) : GC X Y M (if y < x then A else B) s pc lv (.int y :: .int x :: st) := by
  obtain ⟨p, l, e, R, z, m, args, below, meth, c⟩ := X
  exact gc_br (st' := st) (fun ad H locs cells slots Q ls g _ _ a b => lv_icmp_le hC.1 hC.2.1 hdg ht (fun h => b (Int32.not_lt.mpr h)) (fun h => a (Int32.not_le.mp h))) (fun h => h.tail.tail) ka kb
theorem gc_if_eq (hC : gOk X own cc) {x : Int32} {off : Int} {tgt : Nat} (hdg : decode cc pc = .ok (.ifCond .eq off, 3)) (ht : (pc : Int) + off = (tgt : Int)) (ka : GC X Y M A s (tgt) lv st) (kb : GC X Y M B s (pc + 3) lv st) : GC X Y M (if x = 0 then A else B) s pc lv (.int x :: st) := by
  obtain ⟨p, l, e, R, z, m, args, below, meth, c⟩ := X
  exact gc_br (st' := st) (fun ad H locs cells slots Q ls g _ _ a b => lv_if_eq hC.1 hC.2.1 hdg ht (fun h => a h) (fun h => b h)) (fun h => h.tail) ka kb
theorem gc_if_ne (hC : gOk X own cc) {x : Int32} {off : Int} {tgt : Nat} (hdg : decode cc pc = .ok (.ifCond .ne off, 3)) (ht : (pc : Int) + off = (tgt : Int)) (ka : GC X Y M A s (pc + 3) lv st) (kb : GC X Y M B s (tgt) lv st) : GC X Y M (if x = 0 then A else B) s pc lv (.int x :: st) := by
  obtain ⟨p, l, e, R, z, m, args, below, meth, c⟩ := X
  exact gc_br (st' := st) (fun ad H locs cells slots Q ls g _ _ a b => lv_if_ne hC.1 hC.2.1 hdg ht (fun h => b h) (fun h => a h)) (fun h => h.tail) ka kb
theorem gc_if_lt (hC : gOk X own cc) {x : Int32} {off : Int} {tgt : Nat} (hdg : decode cc pc = .ok (.ifCond .lt off, 3)) (ht : (pc : Int) + off = (tgt : Int)) (ka : GC X Y M A s (tgt) lv st) (kb : GC X Y M B s (pc + 3) lv st) : GC X Y M (if x < 0 then A else B) s pc lv (.int x :: st) := by
  obtain ⟨p, l, e, R, z, m, args, below, meth, c⟩ := X
  exact gc_br (st' := st) (fun ad H locs cells slots Q ls g _ _ a b => lv_if_lt hC.1 hC.2.1 hdg ht (fun h => a h) (fun h => b h)) (fun h => h.tail) ka kb
theorem gc_if_ge (hC : gOk X own cc) {x : Int32} {off : Int} {tgt : Nat} (hdg : decode cc pc = .ok (.ifCond .ge off, 3)) (ht : (pc : Int) + off = (tgt : Int)) (ka : GC X Y M A s (pc + 3) lv st) (kb : GC X Y M B s (tgt) lv st) : GC X Y M (if x < 0 then A else B) s pc lv (.int x :: st) := by
  obtain ⟨p, l, e, R, z, m, args, below, meth, c⟩ := X
  exact gc_br (st' := st) (fun ad H locs cells slots Q ls g _ _ a b => lv_if_ge hC.1 hC.2.1 hdg ht (fun h => b (Int32.not_lt.mpr h)) (fun h => a (Int32.not_le.mp h))) (fun h => h.tail) ka kb
theorem gc_if_gt (hC : gOk X own cc) {x : Int32} {off : Int} {tgt : Nat} (hdg : decode cc pc = .ok (.ifCond .gt off, 3)) (ht : (pc : Int) + off = (tgt : Int)) (ka : GC X Y M A s (tgt) lv st) (kb : GC X Y M B s (pc + 3) lv st) : GC X Y M (if 0 < x then A else B) s pc lv (.int x :: st) := by
  obtain ⟨p, l, e, R, z, m, args, below, meth, c⟩ := X
  exact gc_br (st' := st) (fun ad H locs cells slots Q ls g _ _ a b => lv_if_gt hC.1 hC.2.1 hdg ht (fun h => a h) (fun h => b h)) (fun h => h.tail) ka kb
theorem gc_if_le (hC : gOk X own cc) {x : Int32} {off : Int} {tgt : Nat} (hdg : decode cc pc = .ok (.ifCond .le off, 3)) (ht : (pc : Int) + off = (tgt : Int)) (ka : GC X Y M A s (pc + 3) lv st) (kb : GC X Y M B s (tgt) lv st) : GC X Y M (if 0 < x then A else B) s pc lv (.int x :: st) := by
  obtain ⟨p, l, e, R, z, m, args, below, meth, c⟩ := X
  exact gc_br (st' := st) (fun ad H locs cells slots Q ls g _ _ a b => lv_if_le hC.1 hC.2.1 hdg ht (fun h => b (Int32.not_lt.mpr h)) (fun h => a (Int32.not_le.mp h))) (fun h => h.tail) ka kb
/-- null or not -/
def onul {β : Type} (x : Option Nat) (a : β) (b : Nat → β) : β := match x with
  | none => a
  | some y => b y
theorem gc_ifnull (hC : gOk X own cc) {x : Option Nat} {off : Int} {tgt : Nat} {B : Nat → Option (α × cS)} (hdg : decode cc pc = .ok (.ifnull off, 3)) (ht : (pc : Int) + off = (tgt : Int)) (ka : x = none → GC X Y M A s tgt lv st) (kb : ∀ y, x = some y → GC X Y M (B y) s (pc + 3) lv st) : GC X Y M (onul x A B) s pc lv (vr x :: st) := by
  obtain ⟨p, l, e, R, z, m, args, below, meth, c⟩ := X
  cases x with
  | none => exact gc_go (lv' := lv) (st' := st) (fun ad H locs cells slots Q ls g k => lv_ifnullN hC.1 hC.2.1 hdg ht (k ls g)) (fun h => h.tail) (ka rfl)
  | some y => exact gc_go (lv' := lv) (st' := st) (fun ad H locs cells slots Q ls g k => lv_ifnull hC.1 hC.2.1 hdg (k ls g)) (fun h => h.tail) (kb y rfl)
theorem gc_ifnonnull (hC : gOk X own cc) {x : Option Nat} {off : Int} {tgt : Nat} {B : Nat → Option (α × cS)} (hdg : decode cc pc = .ok (.ifnonnull off, 3)) (ht : (pc : Int) + off = (tgt : Int)) (ka : x = none → GC X Y M A s (pc + 3) lv st) (kb : ∀ y, x = some y → GC X Y M (B y) s tgt lv st) : GC X Y M (onul x A B) s pc lv (vr x :: st) := by
  obtain ⟨p, l, e, R, z, m, args, below, meth, c⟩ := X
  cases x with
  | none => exact gc_go (lv' := lv) (st' := st) (fun ad H locs cells slots Q ls g k => lv_ifnonnullN hC.1 hC.2.1 hdg (k ls g)) (fun h => h.tail) (ka rfl)
  | some y => exact gc_go (lv' := lv) (st' := st) (fun ad H locs cells slots Q ls g k => lv_ifnonnull hC.1 hC.2.1 hdg ht (k ls g)) (fun h => h.tail) (kb y rfl)
/-- a reference is used -/
theorem gc_rv {x : Option Nat} {K : Nat → Option (α × cS)} (k : ∀ a, x = some a → GC X Y M (K a) s pc lv st) : GC X Y M (rv x K) s pc lv st := by
  cases h : x with
  | none => exact gc_none
  | some a => exact k a h
theorem gc_letr {f : Option Nat → Option (α × cS)} {x : Option Nat} (k : ∀ y : Option Nat, y = x → GC X Y M (f y) s pc lv (vr y :: st)) : GC X Y M (letv x f) s pc lv (vr x :: st) := k x rfl
def ctsw (X : gCx) (Y : cY) (M : cMd α) (s : cS) (pc : Nat) (lv : List (Nat × Value)) (st : List Value) : Int → List Int → List (Int32 × Option (α × cS)) → Prop
  | _, [], [] => True
  | i, o :: os, (k, a) :: ks => (k.toInt = i ∧ ∃ tgt : Nat, (pc : Int) + o = (tgt : Int) ∧ GC X Y M a s tgt lv st) ∧ ctsw X Y M s pc lv st (i + 1) os ks
  | _, _, _ => False
theorem ctsw_in {x : Int32} {D : Option (α × cS)} : ∀ (os : List Int) (ks : List (Int32 × Option (α × cS))) (i : Int), ctsw X Y M s pc lv st i os ks → i ≤ x.toInt → x.toInt < i + os.length → ∃ (o : Int) (tgt : Nat) (a : Option (α × cS)), os[(x.toInt - i).toNat]? = some o ∧ (pc : Int) + o = (tgt : Int) ∧ gsw x ks D = a ∧ GC X Y M a s tgt lv st
  | [], _, i, _, h1, h2 => by simp at h2; omega
  | o :: os, [], i, h, _, _ => by exact h.elim
  | o :: os, (k, a) :: ks, i, h, h1, h2 => by
    obtain ⟨⟨hk, tgt, ht, hg⟩, hr⟩ := h
    by_cases e : x = k
    · refine ⟨o, tgt, a, ?_, ht, ?_, hg⟩
      · have : x.toInt - i = 0 := by rw [e, hk]; omega
        rw [this]; rfl
      · unfold gsw; rw [if_pos e]
    · have hne : x.toInt ≠ i := fun q => e (Int32.toInt_inj.mp (by rw [hk]; exact q))
      obtain ⟨o', tgt', a', q1, q2, q3, q4⟩ := ctsw_in (x := x) (D := D) os ks (i + 1) hr (by omega) (by simp at h2; omega)
      refine ⟨o', tgt', a', ?_, q2, ?_, q4⟩
      · have : (x.toInt - i).toNat = (x.toInt - (i + 1)).toNat + 1 := by omega
        rw [this, List.getElem?_cons_succ]; exact q1
      · unfold gsw; rw [if_neg e]; exact q3
theorem ctsw_out {x : Int32} {D : Option (α × cS)} : ∀ (os : List Int) (ks : List (Int32 × Option (α × cS))) (i : Int), ctsw X Y M s pc lv st i os ks → (x.toInt < i ∨ i + os.length ≤ x.toInt) → gsw x ks D = D
  | [], [], i, _, _ => rfl
  | [], _ :: _, i, h, _ => by exact h.elim
  | o :: os, [], i, h, _ => by exact h.elim
  | o :: os, (k, a) :: ks, i, h, h1 => by
    obtain ⟨⟨hk, -⟩, hr⟩ := h
    have hne : ¬ x = k := fun q => by rw [q, hk] at h1; simp at h1; omega
    unfold gsw; rw [if_neg hne]
    exact ctsw_out (x := x) (D := D) os ks (i + 1) hr (by simp at h1; omega)
theorem gc_tsw (hC : gOk X own cc) {x : Int32} {dflt lo hi : Int} {offs : Array Int} {len dt : Nat} {ks : List (Int32 × Option (α × cS))} {D : Option (α × cS)} (hdg : decode cc pc = .ok (.tableswitch dflt lo hi offs, len)) (hsz : hi + 1 = lo + offs.toList.length) (hd : (pc : Int) + dflt = (dt : Int))
    (hk : ctsw X Y M s pc lv st lo offs.toList ks) (kd : GC X Y M D s dt lv st) : GC X Y M (gsw x ks D) s pc lv (.int x :: st) := by
  by_cases hx : x.toInt < lo ∨ hi < x.toInt
  · rw [ctsw_out offs.toList ks lo hk (by omega)]
    obtain ⟨p, l, e, R, z, m, args, below, meth, c⟩ := X
    exact gc_go (lv' := lv) (st' := st) (fun ad H locs cells slots Q ls g k => lv_tableOut hC.1 hC.2.1 hdg hx hd (k ls g)) (fun h => h.tail) kd
  · obtain ⟨o, tgt, a, q1, q2, q3, q4⟩ := ctsw_in (x := x) (D := D) offs.toList ks lo hk (by omega) (by omega)
    rw [q3]
    obtain ⟨p, l, e, R, z, m, args, below, meth, c⟩ := X
    exact gc_go (lv' := lv) (st' := st) (fun ad H locs cells slots Q ls g k => lv_tableIn hC.1 hC.2.1 hdg (by omega) (by omega) (by rw [← Array.getElem?_toList]; exact q1) q2 (k ls g)) (fun h => h.tail) q4
/-- lookupswitch: its pairs one by one -/
def clsw (X : gCx) (Y : cY) (M : cMd α) (s : cS) (pc : Nat) (lv : List (Nat × Value)) (st : List Value) : List (Int × Int) → List (Int32 × Option (α × cS)) → Prop
  | [], [] => True
  | (i, o) :: os, (k, a) :: ks => (k.toInt = i ∧ ∃ tgt : Nat, (pc : Int) + o = (tgt : Int) ∧ GC X Y M a s tgt lv st) ∧ clsw X Y M s pc lv st os ks
  | _, _ => False
theorem clsw_at {x : Int32} {D : Option (α × cS)} {dflt : Int} {dt : Nat} (hd : (pc : Int) + dflt = (dt : Int)) (kd : GC X Y M D s dt lv st) : ∀ (os : List (Int × Int)) (ks : List (Int32 × Option (α × cS))), clsw X Y M s pc lv st os ks → ∃ (o : Int) (tgt : Nat), Op.lookupswitch.offset os dflt x.toInt = o ∧ (pc : Int) + o = (tgt : Int) ∧ GC X Y M (gsw x ks D) s tgt lv st
  | [], [], _ => ⟨dflt, dt, rfl, hd, kd⟩
  | [], _ :: _, h => by exact h.elim
  | _ :: _, [], h => by exact h.elim
  | (i, o) :: os, (k, a) :: ks, h => by
    obtain ⟨⟨hk, tgt, ht, hg⟩, hr⟩ := h
    by_cases e : x = k
    · refine ⟨o, tgt, ?_, ht, ?_⟩
      · rw [Op.lookupswitch.offset_cons, if_pos (by rw [e]; exact hk.symm)]
      · unfold gsw; rw [if_pos e]; exact hg
    · obtain ⟨o', tgt', q1, q2, q3⟩ := clsw_at (x := x) (D := D) hd kd os ks hr
      refine ⟨o', tgt', ?_, q2, ?_⟩
      · rw [lv_osw e hk]; exact q1
      · unfold gsw; rw [if_neg e]; exact q3
theorem gc_lsw (hC : gOk X own cc) {x : Int32} {dflt : Int} {ps : Array (Int × Int)} {len dt : Nat} {ks : List (Int32 × Option (α × cS))} {D : Option (α × cS)} (hdg : decode cc pc = .ok (.lookupswitch dflt ps, len)) (hp : (ps.toList.zip (ps.toList.drop 1)).all (fun (a, next) => a.1 < next.1) = true) (hd : (pc : Int) + dflt = (dt : Int))
    (hk : clsw X Y M s pc lv st ps.toList ks) (kd : GC X Y M D s dt lv st) : GC X Y M (gsw x ks D) s pc lv (.int x :: st) := by
  obtain ⟨o, tgt, q1, q2, q3⟩ := clsw_at (x := x) hd kd ps.toList ks hk
  obtain ⟨p, l, e, R, z, m, args, below, meth, c⟩ := X
  exact gc_go (lv' := lv) (st' := st) (fun ad H locs cells slots Q ls g k => lv_lookup hC.1 hC.2.1 hdg hp q1 q2 (k ls g)) (fun h => h.tail) q3
end GCA
