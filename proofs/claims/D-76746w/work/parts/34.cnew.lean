/-! new objects, arrays -/
def adN (ad : Nat → Nat) (n x : Nat) : Nat → Nat := fun u => if u = n then x else ad u
theorem adN_eq {ad : Nat → Nat} {n x : Nat} : adN ad n x n = x := if_pos rfl
theorem adN_ne {ad : Nat → Nat} {n x u : Nat} (h : u ≠ n) : adN ad n x u = ad u := if_neg h
theorem tv_adN {ad : Nat → Nat} {n x : Nat} {v : Value} {s : cS} (hv : vOk s v) (hn : cK s n = 0) : tv (adN ad n x) v = tv ad v := by
  cases v with
  | ref a =>
    show Value.ref (adN ad n x a) = .ref (ad a)
    rw [adN_ne]
    intro e
    rw [e] at hv
    exact hv hn
  | _ => rfl
theorem lmap_adN {ad : Nat → Nat} {n x : Nat} {lv : List (Nat × Value)} {s : cS} (hv : ∀ q ∈ lv, vOk s q.2) (hn : cK s n = 0) : lmap (adN ad n x) lv = lmap ad lv := by
  unfold lmap
  apply List.map_congr_left
  intro q hq
  rw [tv_adN (hv q hq) hn]
theorem smap_adN {ad : Nat → Nat} {n x : Nat} {st : List Value} {s : cS} (hv : ∀ v ∈ st, vOk s v) (hn : cK s n = 0) : st.map (tv (adN ad n x)) = st.map (tv ad) := by
  apply List.map_congr_left
  intro v hq
  rw [tv_adN (hv v hq) hn]
/-- a step of the numbers: old objects as they were, one new (or none known) -/
theorem cH_grow {Y : cY} {ad : Nat → Nat} {s s1 : cS} {H H1 : Heap} {x : Nat} (h : cH Y ad s H) (hK : ∀ b, b ≠ cn s → cK s1 b = cK s b) (hL : ∀ b, b ≠ cn s → cL s1 b = cL s b) (hv : ∀ g b, b ≠ cn s → cVal s1 g b = cVal s g b) (hR : ∀ g b u, b ≠ cn s → cR s1 g b = some u → cR s g b = some u) (hn : cn s < cn s1)
    (h0 : cK s1 (cn s) ≠ 0) (hx : x < H1.size) (hz : H.size ≤ H1.size) (ho : ∀ q, q < H.size → H1[q]? = H[q]?) (hfr : cK s1 (cn s) ≠ 99 → H.size ≤ x ∧ Y.2.2.2.1 x) (hnew : ∀ f u, cR s1 f (cn s) = some u → cK s1 (cn s) = 99 ∨ cK s1 u ≠ 0) (hRn : cK s1 (cn s) = 99 → ∀ f, cR s1 f (cn s) = none) (hat : cAt Y (adN ad (cn s) x) s1 (cn s) H1) : cH Y (adN ad (cn s) x) s1 H1 := by
  obtain ⟨c1, c2, c3, c4, c5, c6⟩ := h
  have hz0 : cK s (cn s) = 0 := c1.2 _ (Nat.le_refl _)
  have h299 : (299 : Nat) ≠ cn s := fun e => by have := c1.1.1; omega
  refine ⟨⟨⟨by have := c1.1.1; omega, by rw [hK _ h299]; exact c1.1.2.1, (cVal_vr rfl (hv 52 299 h299)).trans c1.1.2.2.1, (cVal_vr rfl (hv 53 299 h299)).trans c1.1.2.2.2.1, fun f u hu => ?_⟩, fun a ha => ?_⟩, fun a b ha hb ha9 hb9 he => ?_, fun b hb => ?_, fun a ha => ?_, fun f a u ha hu => ?_, ⟨Nat.le_trans c6.1 hz, fun q hq => by rw [ho q (Nat.lt_of_lt_of_le hq c6.1)]; exact c6.2.1 q hq, fun q hq => c6.2.2 q (Nat.le_trans hz hq)⟩⟩
  · have hu' := c1.1.2.2.2.2 f u (hR f 299 u h299 hu)
    by_cases eu : u = cn s
    · rw [eu]; exact h0
    · rw [hK u eu]; exact hu'
  · rw [hK a (by omega)]; exact c1.2 a (by omega)
  · by_cases ea : a = cn s <;> by_cases eb : b = cn s
    · rw [ea, eb]
    · exfalso
      subst ea
      rw [adN_eq, adN_ne eb] at he
      rw [hK b eb] at hb
      have := (c3 b hb).1
      have := (hfr ha9).1
      omega
    · exfalso
      subst eb
      rw [adN_eq, adN_ne ea] at he
      rw [hK a ea] at ha
      have := (c3 a ha).1
      have := (hfr hb9).1
      omega
    · rw [adN_ne ea, adN_ne eb] at he
      rw [hK a ea] at ha ha9
      rw [hK b eb] at hb hb9
      exact c2 a b ha hb ha9 hb9 he
  · by_cases eb : b = cn s
    · subst eb
      exact ⟨by rw [adN_eq]; exact hx, hat⟩
    · rw [hK b eb] at hb
      obtain ⟨q1, q2⟩ := c3 b hb
      refine ⟨by rw [adN_ne eb]; omega, ?_⟩
      have hcv : ∀ g, tv (adN ad (cn s) x) (cVal s1 g b) = tv ad (cVal s g b) := fun g => by
        rw [hv g b eb]
        refine tv_adN (s := s) ?_ hz0
        unfold cVal
        cases cRef g with
        | false => trivial
        | true =>
          show vOk s (vr (cR s g b))
          cases hx : cR s g b with
          | none => trivial
          | some u => exact c5 g b u hb hx
      unfold cAt at q2 ⊢
      rw [hK b eb, hL b eb, adN_ne eb, ho _ q1]
      simp only [hcv]
      exact q2
  · by_cases ea : a = cn s
    · subst ea
      rw [adN_eq]
      exact ⟨fun q => by have := c1.1.1; omega, fun ha9 => Or.inl (hfr ha9).2⟩
    · rw [adN_ne ea]
      rw [hK a ea] at ha ⊢
      exact c4 a ha
  · by_cases ea : a = cn s
    · subst ea
      rcases hnew f u hu with q | q
      · rw [hRn q f] at hu; cases hu
      · exact q
    · rw [hK a ea] at ha
      have hu' := c5 f a u ha (hR f a u ea hu)
      by_cases eu : u = cn s
      · rw [eu]; exact h0
      · rw [hK u eu]; exact hu'
theorem cVal_sN {s : cS} {k len w g b : Nat} (h : b ≠ cn s) : cVal (sN s k len w) g b = cVal s g b := by
  unfold cVal
  have h1 : cR (sN s k len w) g b = cR s g b := if_neg h
  have h2 : cI (sN s k len w) g b = cI s g b := if_neg h
  rw [h1, h2]
theorem cVal_sN0 {s : cS} {k len w g : Nat} : cVal (sN s k len w) g (cn s) = if cRef g then .null else .int 0 := by
  unfold cVal
  have h1 : cR (sN s k len w) g (cn s) = none := if_pos rfl
  have h2 : cI (sN s k len w) g (cn s) = 0 := if_pos rfl
  rw [h1, h2]
  rfl
section GCN
variable {α : Type} {X : gCx} {Y : cY} {M : cMd α} {F : Option (α × cS)} {s s1 : cS} {pc pc' d : Nat} {lv lv' : List (Nat × Value)} {st st' : List Value} {own : String} {cc : ByteArray}
/-- something new -/
theorem gc_al {k len w : Nat} (hC : cOk X Y own cc d) (hk0 : k ≠ 0) (hk9 : k ≠ 99)
    (row : ∀ (ad : Nat → Nat) (H : Heap) (locs : List Loc) (cells slots : Nat) (Q : State → Prop) (ls : Array Slot), cH Y ad s H → gHas ls M.1 (lmap ad lv) → cells + 1 ≤ (gRm X).cells → slots + w ≤ (gRm X).slots → (∀ H1 : Heap, H1.size = H.size + 1 → (∀ q, q < H.size → H1[q]? = H[q]?) → cAt Y (adN ad (cn s) H.size) (sN s k len w) (cn s) H1 → gW X H1 locs (cells + 1) (slots + w) Q (F0 (gMe X) pc' ls (.ref H.size :: st'.map (tv ad)))) → gW X H locs cells slots Q (F0 (gMe X) pc ls (st.map (tv ad))))
    (hst : ∀ v ∈ st', v ∈ st) (kk : GC X Y M F (sN s k len w) pc' lv (.ref (cn s) :: st')) : GC X Y M F s pc lv st := by
  intro r t' h
  obtain ⟨⟨h1, h1', h3⟩, h2⟩ := kk r t' h
  have e1 : cn (sN s k len w) = cn s + 1 := rfl
  have e2 : cz (sN s k len w) = cz s + w := rfl
  rw [e1] at h1
  rw [e2] at h1'
  refine ⟨⟨by omega, by omega, fun u hu => by rw [h3 u (by rw [e1]; omega)]; exact if_neg (by omega)⟩, fun ad mc ms cells slots H locs ls a b c dd hH hR g i hS l => ?_⟩
  refine row ad H locs cells slots _ ls hH l (by omega) (by omega) fun H1 z1 o1 hat => ?_
  have hz0 : cK s (cn s) = 0 := hH.1.2 _ (Nat.le_refl _)
  have hc0 : cK (sN s k len w) (cn s) = k := if_pos rfl
  have hAx : Y.2.2.2.1 H.size := hC.2.2.2.2.2.2.1 _ hS.1
  have hH1 : cH Y (adN ad (cn s) H.size) (sN s k len w) H1 := by
    refine cH_grow hH (fun b hb => if_neg hb) (fun b hb => if_neg hb) (fun g b hb => cVal_sN hb) (fun g b u hb hu => ?_) (by rw [e1]; omega) (by rw [hc0]; exact hk0) (by omega) (by omega) o1 (fun _ => ⟨Nat.le_refl _, hAx⟩) (fun f u hu => ?_) (fun q => absurd (hc0.symm.trans q) hk9) hat
    · have : cR (sN s k len w) g b = cR s g b := if_neg hb
      rw [← this]; exact hu
    · have : cR (sN s k len w) f (cn s) = none := if_pos rfl
      rw [this] at hu; cases hu
  have hR1 : cRf (sN s k len w) lv (.ref (cn s) :: st') := by
    have key : ∀ v, vOk s v → vOk (sN s k len w) v := fun v hv => by
      cases v with
      | ref u =>
        show cK (sN s k len w) u ≠ 0
        by_cases e : u = cn s
        · rw [e, hc0]; exact hk0
        · have : cK (sN s k len w) u = cK s u := if_neg e
          rw [this]; exact hv
      | _ => trivial
    refine ⟨fun q hq => key _ (hR.1 q hq), fun v hv => ?_⟩
    rcases List.mem_cons.mp hv with e | e
    · rw [e]; show cK (sN s k len w) (cn s) ≠ 0; rw [hc0]; exact hk0
    · exact key _ (hR.2 v (hst v e))
  have hl1 : lmap (adN ad (cn s) H.size) lv = lmap ad lv := lmap_adN hR.1 hz0
  have hs1 : (Value.ref (cn s) :: st').map (tv (adN ad (cn s) H.size)) = .ref H.size :: st'.map (tv ad) := by
    rw [List.map_cons, smap_adN (fun v hv => hR.2 v (hst v hv)) hz0]
    show Value.ref (adN ad (cn s) H.size (cn s)) :: _ = _
    rw [adN_eq]
  rw [← hs1]
  refine h2 (adN ad (cn s) H.size) mc ms (cells + 1) (slots + w) H1 locs ls a b (by rw [e1]; omega) (by rw [e2]; omega) hH1 hR1 (by rw [e1]; omega) (fun u hu => ?_) ⟨by have := hS.1; omega, fun q q1 q2 => (o1 q (Nat.lt_of_lt_of_le q1 hS.1)).trans (hS.2.1 q q1 q2), hS.2.2⟩ (by rw [hl1]; exact l)
  rw [adN_ne (by omega)]
  exact i u hu
theorem gc_new (hC : cOk X Y own cc d) {ci index : Nat} {C : String} {T : u_T} {N : Nat} (ty : Nat → FieldType) (hty : ∀ k, k < N → parseFieldDescriptor (T k).2.2.1 = some (ty k)) (hr : ccl[ci]? = some (C, T, N)) (hin : ∀ w ∈ u_ws C T N, w ∈ lw_all) (hdg : decode cc pc = .ok (.new index, 3)) (hcl : Cond.classLink own index C ∈ lw_all) (hinst : Cond.instantiable C N ∈ lw_all) (hini : Cond.initialized C ∈ lw_all)
    (hdef : ∀ k, k < N → defaultValue (ty k) = if cRef (cFl ci k) then .null else .int 0) (kk : GC X Y M F (sN s (ci + 1) 0 N) (pc + 3) lv (.ref (cn s) :: st)) : GC X Y M F s pc lv st := by
  have hlt := ccl_lt hr
  refine gc_al hC (by omega) (by omega) (fun ad H locs cells slots Q ls hH hl h1 h2 kk => ?_) (fun v hv => hv) kk
  obtain ⟨p, l, e, R, z, m, args, below, meth, c⟩ := X
  obtain ⟨⟨hx, hb, hown, hts, hlk⟩, hB, -⟩ := hC
  obtain ⟨hS, hfc, kC, hkC, hkind⟩ := hB.1.1 ci _ hr
  refine W.newcK hx hb hown (hts _ hcl) (hts _ hinst) (hts _ hini) rfl hdg h1 h2 hfc rfl fun H1 kC hkC e1 z1 o1 => ?_
  refine kk H1 z1 o1 ?_
  have hc0 : cK (sN s (ci + 1) 0 N) (cn s) = ci + 1 := if_pos rfl
  unfold cAt
  rw [hc0, if_neg (by omega), if_pos (by omega), Nat.add_sub_cancel]
  refine ⟨_, hr, _, by rw [adN_eq]; exact e1, rfl, rfl, rfl, fun k hk => ?_⟩
  obtain ⟨cell, b1, b2, b3, b4⟩ := u_born (o := H.size) (H := H1) ty hts hin (hB.1.1 ci _ hr) hkC e1 hty
  cases b1.symm.trans e1
  rw [b4 k hk, cVal_sN0]
  show some (defaultValue (ty k)) = _
  rw [hdef k hk]
  cases cRef (cFl ci k) <;> rfl
end GCN
