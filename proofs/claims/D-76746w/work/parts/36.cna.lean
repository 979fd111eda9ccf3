/-! arrays made by the component -/
section GCNA
variable {α : Type} {X : gCx} {Y : cY} {M : cMd α} {F : Option (α × cS)} {s s1 : cS} {pc pc' d : Nat} {lv lv' : List (Nat × Value)} {st st' : List Value} {own : String} {cc : ByteArray}
theorem cAt_newarr {Y : cY} {ad : Nat → Nat} {s : cS} {H1 : Heap} {k N w x : Nat} {v0 : Value} (h1 : 20 ≤ k) (h2 : k < 25) (hv : v0 = if k < 22 then .int 0 else .null) (e : H1[x]? = some (arrV (Y.2.1 k) N (fun _ => v0))) : cAt Y (adN ad (cn s) x) (sN s k N w) (cn s) H1 := by
  have hc0 : cK (sN s k N w) (cn s) = k := if_pos rfl
  have hl0 : cL (sN s k N w) (cn s) = N := if_pos rfl
  unfold cAt
  rw [hc0, if_neg (by omega), if_neg (by omega), if_pos (by omega), adN_eq, hl0, e]
  congr 1
  refine arrV_congr fun j => ?_
  rw [cVal_sN0, hv]
  by_cases h : k < 22
  · rw [if_pos h, cEl_I h, cRef_ei]; rfl
  · rw [if_neg h, cEl_R h, cRef_er]; rfl
theorem gc_newI (hC : cOk X Y own cc d) {n : Int32} {N : Nat} (hn : ¬ n < 0) (hN : n.toNatClampNeg = N) (hb0 : N * 4 ≤ 536870912) (hw : Cond.arrayClass .int ∈ lw_all) (hdg : decode cc pc = .ok (.newarray .int, 2)) (kk : GC X Y M F (sN s 20 N N) (pc + 2) lv (.ref (cn s) :: st)) : GC X Y M F s pc lv (.int n :: st) := by
  refine gc_al hC (by omega) (by omega) (fun ad H locs cells slots Q ls hH hl h1 h2 k1 => ?_) (fun v hv => List.mem_cons_of_mem _ hv) kk
  obtain ⟨p, l, e, R, z, m, args, below, meth, c⟩ := X
  obtain ⟨⟨hx, hb, hown, hts, hlk⟩, hB, -⟩ := hC
  refine va_newaK hx hb (atype := .int) (hts _ hw) rfl hdg rfl hn hN hb0 h1 h2 rfl fun H1 cA e1 z1 o1 hAr hNm => ?_
  have hc : Y.2.1 20 = cA := by
    have h3 : z.vm.findClass ("[" ++ FieldType.int.toString) = some (Y.2.1 20) := (hB.1.2 0 _ rfl).2
    exact Option.some.inj (h3.symm.trans hNm)
  exact k1 H1 z1 o1 (cAt_newarr (by omega) (by omega) rfl (by rw [hc]; exact e1))
theorem gc_newB (hC : cOk X Y own cc d) {n : Int32} {N : Nat} (hn : ¬ n < 0) (hN : n.toNatClampNeg = N) (hb0 : N * 1 ≤ 536870912) (hw : Cond.arrayClass .byte ∈ lw_all) (hdg : decode cc pc = .ok (.newarray .byte, 2)) (kk : GC X Y M F (sN s 21 N N) (pc + 2) lv (.ref (cn s) :: st)) : GC X Y M F s pc lv (.int n :: st) := by
  refine gc_al hC (by omega) (by omega) (fun ad H locs cells slots Q ls hH hl h1 h2 k1 => ?_) (fun v hv => List.mem_cons_of_mem _ hv) kk
  obtain ⟨p, l, e, R, z, m, args, below, meth, c⟩ := X
  obtain ⟨⟨hx, hb, hown, hts, hlk⟩, hB, -⟩ := hC
  refine va_newaK hx hb (atype := .byte) (hts _ hw) rfl hdg rfl hn hN hb0 h1 h2 rfl fun H1 cA e1 z1 o1 hAr hNm => ?_
  have hc : Y.2.1 21 = cA := by
    have h3 : z.vm.findClass ("[" ++ FieldType.byte.toString) = some (Y.2.1 21) := (hB.1.2 1 _ rfl).2
    exact Option.some.inj (h3.symm.trans hNm)
  exact k1 H1 z1 o1 (cAt_newarr (by omega) (by omega) rfl (by rw [hc]; exact e1))
theorem gc_newQ (hC : cOk X Y own cc d) {k index : Nat} {C : String} {n : Int32} {N : Nat} (h22 : 22 ≤ k) (h24 : k < 24) {t0 : Nat} (ht : (cTys Y)[t0]? = some (Y.2.1 k, .object C)) (hn : ¬ n < 0) (hN : n.toNatClampNeg = N) (hb0 : N * 4 ≤ 536870912) (hcl : Cond.classLink own index C ∈ lw_all) (hover : va_AO C (gSt X)) (hdg : decode cc pc = .ok (.anewarray index, 3)) (kk : GC X Y M F (sN s k N N) (pc + 3) lv (.ref (cn s) :: st)) : GC X Y M F s pc lv (.int n :: st) := by
  refine gc_al hC (by omega) (by omega) (fun ad H locs cells slots Q ls hH hl h1 h2 k1 => ?_) (fun v hv => List.mem_cons_of_mem _ hv) kk
  obtain ⟨p, l, e, R, z, m, args, below, meth, c⟩ := X
  obtain ⟨⟨hx, hb, hown, hts, hlk⟩, hB, -⟩ := hC
  subst hN
  refine W.anew hx hb hown (hts _ hcl) (va_AO.use hover) rfl hdg rfl hn hb0 h1 h2 fun cA kA comp f1 f2 f3 f4 => ?_
  have hc : Y.2.1 k = cA := by
    obtain ⟨_, _, _, _, _, h3⟩ := (hB.1.2 t0 _ ht).2
    exact Option.some.inj (h3.symm.trans f1)
  refine k1 _ (by rw [Array.size_push]) (fun q hq => by rw [Array.getElem?_push, if_neg (Nat.ne_of_lt hq)]) (cAt_newarr (v0 := .null) (by omega) (by omega) (by rw [if_neg (by omega)]) ?_)
  rw [Array.getElem?_push_size, ← arrV_new, hc]
end GCNA
