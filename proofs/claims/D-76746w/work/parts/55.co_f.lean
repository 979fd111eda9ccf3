/-! the component: walks, by program (gen/cgen.py) -/
def fD_why (v0 : Nat) (t : cS) : Option (Int32 × cS) :=
  if cK t v0 = 11 then fX13_why v0 t else
  gd (cK t v0 = 12) (fX14_why v0 t)
theorem mfD_why (v0 : Nat) (t : cS) : MO t (fD_why v0 t) := by
  unfold fD_why
  refine mo_ite (by apply mfX13_why) ?_
  exact mo_gd (by apply mfX14_why)
set_option maxHeartbeats 4000000 in
theorem gD_why {α : Type} {X : gCx} {Y : cY} {M : cMd α} {t : cS} {pc d index : Nat} {lv : List (Nat × Value)} {rest : List Value} {own : String} {cc : ByteArray} {K : Int32 → cS → Option (α × cS)} {v0 : Nat}  (hC : cOk X Y own cc d) (hnL : gLoc X = M.1) (hl : (gLn X).stackTraces = false) (hY : ∀ q, q < Y.2.2.2.2.size → ¬ Y.2.2.2.1 q) (hdg : decode cc pc = .ok (.invokevirtual index, 3)) (w1 : Cond.methodLink own index ⟨"ActorTrees$Overfull", "why", "()I"⟩ ∈ lw_all) (hd : 2 ≤ d) (hs8 : (rest.map fun v => v.category).sum ≤ 8) (kn : ∀ (r : Int32) (s1 : cS) (v : Option Value), rI r = .inl v → GC X Y M (K r s1) s1 (pc + 3) lv (v.toList ++ rest)) (kx : ∀ (r : Int32) (s1 : cS) (x : Nat), rI r = .inr x → GX X Y M (K r s1) s1 pc lv x) : GC X Y M (ob (fD_why v0 t) K) t pc lv (.ref v0 :: rest) := by
  rw [fD_why]
  refine gc_obif (fun hk => gc_callU (As := []) (rest := rest) (n := 0) (d' := 1) (x := ⟨"ActorTrees$Overfull", "why", "()I"⟩) hC hnL (wX13_why (gLn X) Y hl hY v0 t) hk (ci := 10) rfl hdg w1 q968 q967 q973 q972 q93 q974 (by decide +kernel) (by decide +kernel) rfl (by omega) (by decide) hs8 kn kx) (fun _ => ?_)
  exact gc_obgd (fun hk => gc_callU (As := []) (rest := rest) (n := 0) (d' := 1) (x := ⟨"ActorTrees$Overfull", "why", "()I"⟩) hC hnL (wX14_why (gLn X) Y hl hY v0 t) hk (ci := 11) rfl hdg w1 q968 q967 q970 q969 q98 q971 (by decide +kernel) (by decide +kernel) rfl (by omega) (by decide) hs8 kn kx)
def fX3_of (v0 : Nat) (v1 : Int32) (t : cS) : Option (Option Nat × cS) :=
  gsw v1 [
    ((nI 0), 
      gd (cK t 266 = 36) (
      (some ((some (266)), t))
      )
    ),
    ((nI 1), 
      letv (sLR t 37 v0) (fun s1 =>
      (some ((some (cn t)), s1))
      )
    ),
    ((nI 2), 
      letv (sLR t 38 v0) (fun s2 =>
      (some ((some (cn t)), s2))
      )
    ),
    ((nI 3), 
      letv (sLR t 39 v0) (fun s3 =>
      (some ((some (cn t)), s3))
      )
    ),
    ((nI 4), 
      letv (sLR t 40 v0) (fun s4 =>
      (some ((some (cn t)), s4))
      )
    ),
    ((nI 5), 
      letv (sLR t 41 v0) (fun s5 =>
      (some ((some (cn t)), s5))
      )
    ),
    ((nI 6), 
      letv (sLR t 42 v0) (fun s6 =>
      (some ((some (cn t)), s6))
      )
    ),
    ((nI 7), 
      letv (sLR t 43 v0) (fun s7 =>
      (some ((some (cn t)), s7))
      )
    ),
    ((nI 8), 
      letv (sLR t 44 v0) (fun s8 =>
      (some ((some (cn t)), s8))
      )
    )
  ] (
    letv (sLR t 45 v0) (fun s9 =>
    (some ((some (cn t)), s9))
    )
  )
theorem mfX3_of (v0 : Nat) (v1 : Int32) (t : cS) : MO t (fX3_of v0 v1 t) := by
  unfold fX3_of
  refine mo_sw (List.forall_mem_cons.mpr ⟨?_, List.forall_mem_cons.mpr ⟨?_, List.forall_mem_cons.mpr ⟨?_, List.forall_mem_cons.mpr ⟨?_, List.forall_mem_cons.mpr ⟨?_, List.forall_mem_cons.mpr ⟨?_, List.forall_mem_cons.mpr ⟨?_, List.forall_mem_cons.mpr ⟨?_, List.forall_mem_cons.mpr ⟨?_, fun _ h => absurd h List.not_mem_nil⟩⟩⟩⟩⟩⟩⟩⟩⟩) ?_
  · dsimp only
    refine mo_gd ?_
    exact mo_some
  · dsimp only
    refine mo_letS cMo_sLR (fun _ => ?_)
    exact mo_some
  · dsimp only
    refine mo_letS cMo_sLR (fun _ => ?_)
    exact mo_some
  · dsimp only
    refine mo_letS cMo_sLR (fun _ => ?_)
    exact mo_some
  · dsimp only
    refine mo_letS cMo_sLR (fun _ => ?_)
    exact mo_some
  · dsimp only
    refine mo_letS cMo_sLR (fun _ => ?_)
    exact mo_some
  · dsimp only
    refine mo_letS cMo_sLR (fun _ => ?_)
    exact mo_some
  · dsimp only
    refine mo_letS cMo_sLR (fun _ => ?_)
    exact mo_some
  · dsimp only
    refine mo_letS cMo_sLR (fun _ => ?_)
    exact mo_some
  · refine mo_letS cMo_sLR (fun _ => ?_)
    exact mo_some
set_option maxHeartbeats 4000000 in
theorem wX3_of (l : Launch) (Y : cY) (hl : l.stackTraces = false) (hY : ∀ q, q < Y.2.2.2.2.size → ¬ Y.2.2.2.1 q) (v0 : Nat) (v1 : Int32) (t : cS) : cFn l Y yX3_of (ws_ yX3_of cX3_of 2 (some (.object "ActorTrees$Behaviour"))) 1 [.ref v0, .int v1] t (fX3_of v0 v1 t) rR := by
  refine cmet (av := [.ref v0, .int v1]) (mfX3_of v0 v1 t) hl hY (by decide +kernel) (lg_le (List.forall_mem_cons.mpr ⟨rfl, List.forall_mem_cons.mpr ⟨rfl, fun _ h => absurd h List.not_mem_nil⟩⟩) (Nat.le_of_ble_eq_true rfl)) (lv_args_cat (List.forall_mem_cons.mpr ⟨rfl, List.forall_mem_cons.mpr ⟨rfl, fun _ h => absurd h List.not_mem_nil⟩⟩)) ?_
  intro X ad0 hln hC hnL hrt hnm hT hmd
  subst hln
  have hG := hC.1
  rw [lv_args_s (List.forall_mem_cons.mpr ⟨rfl, List.forall_mem_cons.mpr ⟨rfl, fun _ h => absurd h List.not_mem_nil⟩⟩)]
  show GC X Y (cM Y X 2 t ad0 rR) _ t 0 [(0, .ref v0), (1, .int v1)] []
  unfold fX3_of
  refine gc_iload_n hG dX3_of_0 rfl rfl ?_
  refine gc_tsw hG (dt := 114) dX3_of_1 (by decide) (by decide) ⟨⟨by decide, 52, by decide, ?_⟩, ⟨by decide, 58, by decide, ?_⟩, ⟨by decide, 65, by decide, ?_⟩, ⟨by decide, 72, by decide, ?_⟩, ⟨by decide, 79, by decide, ?_⟩, ⟨by decide, 86, by decide, ?_⟩, ⟨by decide, 93, by decide, ?_⟩, ⟨by decide, 100, by decide, ?_⟩, ⟨by decide, 107, by decide, ?_⟩, trivial⟩ ?_
  · refine gc_gd (fun hk => ?_)
    refine gc_lamC (k := 36) hC hnL hmd (List.mem_of_getElem? (i := 6) rfl) rfl (by decide) hk (by decide) dX3_of_52 (Nat.le_of_ble_eq_true rfl) ?_
    exact gc_aret hC hrt (Or.inl ⟨_, rfl⟩) (refV_a _) rfl dX3_of_57
  · refine gc_aload_n hG (v := .ref v0) (refV_a _) dX3_of_58 rfl rfl ?_
    refine gc_lamR (k := 37) hC hnL hmd (List.mem_of_getElem? (i := 7) rfl) rfl rfl (by decide +kernel) q1709 (by decide) dX3_of_59 (Nat.le_of_ble_eq_true rfl) ?_
    refine gc_letS (fun s1 => ?_)
    exact gc_aret hC hrt (Or.inl ⟨_, rfl⟩) (refV_a _) rfl dX3_of_64
  · refine gc_aload_n hG (v := .ref v0) (refV_a _) dX3_of_65 rfl rfl ?_
    refine gc_lamR (k := 38) hC hnL hmd (List.mem_of_getElem? (i := 8) rfl) rfl rfl (by decide +kernel) q1709 (by decide) dX3_of_66 (Nat.le_of_ble_eq_true rfl) ?_
    refine gc_letS (fun s2 => ?_)
    exact gc_aret hC hrt (Or.inl ⟨_, rfl⟩) (refV_a _) rfl dX3_of_71
  · refine gc_aload_n hG (v := .ref v0) (refV_a _) dX3_of_72 rfl rfl ?_
    refine gc_lamR (k := 39) hC hnL hmd (List.mem_of_getElem? (i := 9) rfl) rfl rfl (by decide +kernel) q1709 (by decide) dX3_of_73 (Nat.le_of_ble_eq_true rfl) ?_
    refine gc_letS (fun s3 => ?_)
    exact gc_aret hC hrt (Or.inl ⟨_, rfl⟩) (refV_a _) rfl dX3_of_78
  · refine gc_aload_n hG (v := .ref v0) (refV_a _) dX3_of_79 rfl rfl ?_
    refine gc_lamR (k := 40) hC hnL hmd (List.mem_of_getElem? (i := 10) rfl) rfl rfl (by decide +kernel) q1709 (by decide) dX3_of_80 (Nat.le_of_ble_eq_true rfl) ?_
    refine gc_letS (fun s4 => ?_)
    exact gc_aret hC hrt (Or.inl ⟨_, rfl⟩) (refV_a _) rfl dX3_of_85
  · refine gc_aload_n hG (v := .ref v0) (refV_a _) dX3_of_86 rfl rfl ?_
    refine gc_lamR (k := 41) hC hnL hmd (List.mem_of_getElem? (i := 11) rfl) rfl rfl (by decide +kernel) q1709 (by decide) dX3_of_87 (Nat.le_of_ble_eq_true rfl) ?_
    refine gc_letS (fun s5 => ?_)
    exact gc_aret hC hrt (Or.inl ⟨_, rfl⟩) (refV_a _) rfl dX3_of_92
  · refine gc_aload_n hG (v := .ref v0) (refV_a _) dX3_of_93 rfl rfl ?_
    refine gc_lamR (k := 42) hC hnL hmd (List.mem_of_getElem? (i := 12) rfl) rfl rfl (by decide +kernel) q1709 (by decide) dX3_of_94 (Nat.le_of_ble_eq_true rfl) ?_
    refine gc_letS (fun s6 => ?_)
    exact gc_aret hC hrt (Or.inl ⟨_, rfl⟩) (refV_a _) rfl dX3_of_99
  · refine gc_aload_n hG (v := .ref v0) (refV_a _) dX3_of_100 rfl rfl ?_
    refine gc_lamR (k := 43) hC hnL hmd (List.mem_of_getElem? (i := 13) rfl) rfl rfl (by decide +kernel) q1709 (by decide) dX3_of_101 (Nat.le_of_ble_eq_true rfl) ?_
    refine gc_letS (fun s7 => ?_)
    exact gc_aret hC hrt (Or.inl ⟨_, rfl⟩) (refV_a _) rfl dX3_of_106
  · refine gc_aload_n hG (v := .ref v0) (refV_a _) dX3_of_107 rfl rfl ?_
    refine gc_lamR (k := 44) hC hnL hmd (List.mem_of_getElem? (i := 14) rfl) rfl rfl (by decide +kernel) q1709 (by decide) dX3_of_108 (Nat.le_of_ble_eq_true rfl) ?_
    refine gc_letS (fun s8 => ?_)
    exact gc_aret hC hrt (Or.inl ⟨_, rfl⟩) (refV_a _) rfl dX3_of_113
  · refine gc_aload_n hG (v := .ref v0) (refV_a _) dX3_of_114 rfl rfl ?_
    refine gc_lamR (k := 45) hC hnL hmd (List.mem_of_getElem? (i := 15) rfl) rfl rfl (by decide +kernel) q1709 (by decide) dX3_of_115 (Nat.le_of_ble_eq_true rfl) ?_
    refine gc_letS (fun s9 => ?_)
    exact gc_aret hC hrt (Or.inl ⟨_, rfl⟩) (refV_a _) rfl dX3_of_120
def fX1_does (v0 : Nat) (v1 : Option Nat) (v2 : Option Nat) (t : cS) : Option ((Unit ⊕ Nat) × cS) :=
  onul v2 (
    if (nI 0) = 0 then
      gd (cK t v0 = 2) (
      letv (cR t 20 v0) (fun x2 =>
      rv v1 (fun a3 =>
      gd (cK t a3 = 5) (
      ob (fX5_does a3 t) (fun r4 s5 =>
      rv x2 (fun a6 =>
      gd (cK s5 a6 = 4) (
      ob (fX3_of a6 r4 s5) (fun r7 s8 =>
      none
      )
      )
      )
      )
      )
      )
      )
      )
    else
      none
  ) (fun a1 =>
    gd (cK t a1 = 9 ∨ cK t a1 = 6) (letv (if cK t a1 = 9 then (nI 1) else (nI 0)) (fun x9 =>
    if x9 = 0 then
      gd (cK t v0 = 2) (
      letv (cR t 20 v0) (fun x10 =>
      rv v1 (fun a11 =>
      gd (cK t a11 = 5) (
      ob (fX5_does a11 t) (fun r12 s13 =>
      rv x10 (fun a14 =>
      gd (cK s13 a14 = 4) (
      ob (fX3_of a14 r12 s13) (fun r15 s16 =>
      gd (cK s16 a1 = 6) (
      rv r15 (fun a17 =>
      obx (fD_deals a17 (some a11) (some a1) s16) (fun r18 s19 =>
        (some ((.inl ()), s19))
      ) (fun e20 s21 =>
        if cK s21 e20 = 10 then
          some (.inr e20, s21)
        else
          if cK s21 e20 = 11 then
            letv (sN s21 10 0 8) (fun s22 =>
            gd (cK s22 a11 = 5) (
            letv (cI s22 26 a11) (fun x23 =>
            ob (fD_why e20 s22) (fun r24 s25 =>
            ob (fX11_init_2 (cn s21) x23 r24 (some e20) s25) (fun r26 s27 =>
            gd (cK s27 (cn s21) = 10) (
            some (.inr (cn s21), s27)
            )
            )
            )
            )
            )
            )
          else
            gd (cK s21 e20 = 12) (
            letv (sN s21 10 0 8) (fun s28 =>
            gd (cK s28 a11 = 5) (
            letv (cI s28 26 a11) (fun x29 =>
            ob (fD_why e20 s28) (fun r30 s31 =>
            ob (fX11_init_2 (cn s21) x29 r30 (some e20) s31) (fun r32 s33 =>
            gd (cK s33 (cn s21) = 10) (
            some (.inr (cn s21), s33)
            )
            )
            )
            )
            )
            )
            )
      )
      )
      )
      )
      )
      )
      )
      )
      )
      )
      )
    else
      gd (cK t a1 = 9) (
      rv v1 (fun a34 =>
      gd (cK t a34 = 5) (
      ob (fX5_does a34 t) (fun r35 s36 =>
      if r35 = (nI 5) then
        letv (sN s36 10 0 8) (fun s37 =>
        gd (cK s37 a34 = 5) (
        letv (cI s37 26 a34) (fun x38 =>
        ob (fX11_init (cn s36) x38 (nI 2) s37) (fun r39 s40 =>
        gd (cK s40 (cn s36) = 10) (
        some (.inr (cn s36), s40)
        )
        )
        )
        )
        )
      else
        gd (cK s36 a34 = 5) (
        letv (cI s36 34 a34) (fun x41 =>
        gd (cK s36 a1 = 9) (
        letv (cI s36 50 a1) (fun x42 =>
        gd (cK s36 a34 = 5) (
        letv (sI s36 34 a34 (x41 + ((nI 100) + x42))) (fun s43 =>
        (some ((.inl ()), s43))
        )
        )
        )
        )
        )
        )
      )
      )
      )
      )
    ))
  )
theorem mfX1_does (v0 : Nat) (v1 : Option Nat) (v2 : Option Nat) (t : cS) : MO t (fX1_does v0 v1 v2 t) := by
  unfold fX1_does
  refine mo_onul ?_ (fun _ => ?_)
  · refine mo_ite ?_ ?_
    · refine mo_gd ?_
      refine mo_letv (fun _ => ?_)
      refine mo_rv (fun _ => ?_)
      refine mo_gd ?_
      refine mo_ob (by apply mfX5_does) (fun _ _ => ?_)
      refine mo_rv (fun _ => ?_)
      refine mo_gd ?_
      refine mo_ob (by apply mfX3_of) (fun _ _ => ?_)
      exact mo_none
    · exact mo_none
  · refine mo_gd ?_
    refine mo_letv (fun _ => ?_)
    refine mo_ite ?_ ?_
    · refine mo_gd ?_
      refine mo_letv (fun _ => ?_)
      refine mo_rv (fun _ => ?_)
      refine mo_gd ?_
      refine mo_ob (by apply mfX5_does) (fun _ _ => ?_)
      refine mo_rv (fun _ => ?_)
      refine mo_gd ?_
      refine mo_ob (by apply mfX3_of) (fun _ _ => ?_)
      refine mo_gd ?_
      refine mo_rv (fun _ => ?_)
      refine mo_obx (by apply mfD_deals) (fun _ _ => ?_) (fun _ _ => ?_)
      · exact mo_some
      · refine mo_ite ?_ ?_
        · exact mo_some
        · refine mo_ite ?_ ?_
          · refine mo_letS cMo_sN (fun _ => ?_)
            refine mo_gd ?_
            refine mo_letv (fun _ => ?_)
            refine mo_ob (by apply mfD_why) (fun _ _ => ?_)
            refine mo_ob (by apply mfX11_init_2) (fun _ _ => ?_)
            refine mo_gd ?_
            exact mo_some
          · refine mo_gd ?_
            refine mo_letS cMo_sN (fun _ => ?_)
            refine mo_gd ?_
            refine mo_letv (fun _ => ?_)
            refine mo_ob (by apply mfD_why) (fun _ _ => ?_)
            refine mo_ob (by apply mfX11_init_2) (fun _ _ => ?_)
            refine mo_gd ?_
            exact mo_some
    · refine mo_gd ?_
      refine mo_rv (fun _ => ?_)
      refine mo_gd ?_
      refine mo_ob (by apply mfX5_does) (fun _ _ => ?_)
      refine mo_ite ?_ ?_
      · refine mo_letS cMo_sN (fun _ => ?_)
        refine mo_gd ?_
        refine mo_letv (fun _ => ?_)
        refine mo_ob (by apply mfX11_init) (fun _ _ => ?_)
        refine mo_gd ?_
        exact mo_some
      · refine mo_gd ?_
        refine mo_letv (fun _ => ?_)
        refine mo_gd ?_
        refine mo_letv (fun _ => ?_)
        refine mo_gd ?_
        refine mo_letS cMo_sI (fun _ => ?_)
        exact mo_some
set_option maxHeartbeats 4000000 in
theorem wX1_does (l : Launch) (Y : cY) (hl : l.stackTraces = false) (hY : ∀ q, q < Y.2.2.2.2.size → ¬ Y.2.2.2.1 q) (v0 : Nat) (v1 : Option Nat) (v2 : Option Nat) (t : cS) : cFn l Y yX1_does (wsW_ yX1_does cX1_does 4 none [(50, 71, 74, 248), (50, 71, 74, 250)]) 34 [.ref v0, vr v1, vr v2] t (fX1_does v0 v1 v2 t) rVx := by
  refine cmetW (av := [.ref v0, vr v1, vr v2]) (mfX1_does v0 v1 v2 t) hl hY (by decide +kernel) (lg_le (List.forall_mem_cons.mpr ⟨rfl, List.forall_mem_cons.mpr ⟨(cat_vr _), List.forall_mem_cons.mpr ⟨(cat_vr _), fun _ h => absurd h List.not_mem_nil⟩⟩⟩) (Nat.le_of_ble_eq_true rfl)) (lv_args_cat (List.forall_mem_cons.mpr ⟨rfl, List.forall_mem_cons.mpr ⟨(cat_vr _), List.forall_mem_cons.mpr ⟨(cat_vr _), fun _ h => absurd h List.not_mem_nil⟩⟩⟩)) ?_
  intro X ad0 hln hC hnL hrt hnm hT hmd
  subst hln
  have hG := hC.1
  rw [lv_args_s (List.forall_mem_cons.mpr ⟨rfl, List.forall_mem_cons.mpr ⟨(cat_vr _), List.forall_mem_cons.mpr ⟨(cat_vr _), fun _ h => absurd h List.not_mem_nil⟩⟩⟩)]
  show GC X Y (cM Y X 4 t ad0 rVx) _ t 0 [(0, .ref v0), (1, vr v1), (2, vr v2)] []
  unfold fX1_does
  refine gc_aload_n hG (v := vr v2) (refV_x _) dX1_does_0 rfl rfl ?_
  refine gc_onul (x := v2) (fun h_ => ?_) (fun a1 h_ => ?_)
  · subst h_
    refine gc_instN hG dX1_does_1 ?_
    refine gc_if_eq hG (tgt := 50) dX1_does_4 (by decide) ?_ ?_
    · refine gc_aload_n hG (v := .ref v0) (refV_a _) dX1_does_50 rfl rfl ?_
      refine gc_gd (fun hk => ?_)
      refine gc_get hC (ci := 1) (j := 14) (v := vr (cR t 20 v0)) hk dX1_does_51 rfl (by decide) in_X1 q190 (fun _ h => h) rfl ?_
      refine gc_letr (fun x2 h_ => ?_)
      refine gc_aload_n hG (v := vr v1) (refV_x _) dX1_does_54 rfl rfl ?_
      refine gc_rv (fun a3 h_ => ?_)
      subst h_
      refine gc_gd (fun hk => ?_)
      refine gc_callV (f := fX5_does a3 t) (As := []) (rest := [vr x2]) (n := 0) (d' := 1) (b := a3) hC hnL (wX5_does (gLn X) Y hl hY a3 t) hk (ci := 4) rfl dX1_does_55 q727 q427 q428 q79 q429 ⟨by decide +kernel, by decide +kernel⟩ rfl (by decide) (by decide) (by simp [cat_vr, cat_r, cat_i, cat_n]) (kn_I (fun r4 s5 => ?_)) kx_I
      refine gc_rv (fun a6 h_ => ?_)
      subst h_
      refine gc_gd (fun hk => ?_)
      refine gc_callVN (f := fX3_of a6 r4 s5) (As := [.int r4]) (rest := []) (n := 1) (d' := 1) (b := a6) hC hnL (wX3_of (gLn X) Y hl hY a6 r4 s5) hk (ci := 3) rfl dX1_does_58 q761 q763 qs8 q77 q764 ⟨by decide +kernel, by decide +kernel⟩ rfl (by decide) (by decide) (Nat.le_of_ble_eq_true rfl) (kn_R (fun r7 s8 => ?_)) kx_R
      refine gc_aload_n hG (v := .ref a3) (refV_a _) dX1_does_61 rfl rfl ?_
      refine gc_aload_n hG (v := .null) (Or.inl rfl) dX1_does_62 rfl rfl ?_
      exact gc_none
    · refine gc_aload_n hG (v := .null) (Or.inl rfl) dX1_does_7 rfl rfl ?_
      exact gc_none
  · subst h_
    refine gc_gd (fun hk => ?_)
    rcases hk with hk | hk
    · refine gc_instE hC hk (ci := 8) rfl q673 dX1_does_1 ?_
      refine gc_letvE (by rw [if_pos hk]; rfl) (fun x9 h_ => ?_)
      refine gc_if_eq hG (tgt := 50) dX1_does_4 (by decide) ?_ ?_
      · refine gc_aload_n hG (v := .ref v0) (refV_a _) dX1_does_50 rfl rfl ?_
        refine gc_gd (fun hk => ?_)
        refine gc_get hC (ci := 1) (j := 14) (v := vr (cR t 20 v0)) hk dX1_does_51 rfl (by decide) in_X1 q190 (fun _ h => h) rfl ?_
        refine gc_letr (fun x10 h_ => ?_)
        refine gc_aload_n hG (v := vr v1) (refV_x _) dX1_does_54 rfl rfl ?_
        refine gc_rv (fun a11 h_ => ?_)
        subst h_
        refine gc_gd (fun hk => ?_)
        refine gc_callV (f := fX5_does a11 t) (As := []) (rest := [vr x10]) (n := 0) (d' := 1) (b := a11) hC hnL (wX5_does (gLn X) Y hl hY a11 t) hk (ci := 4) rfl dX1_does_55 q727 q427 q428 q79 q429 ⟨by decide +kernel, by decide +kernel⟩ rfl (by decide) (by decide) (by simp [cat_vr, cat_r, cat_i, cat_n]) (kn_I (fun r12 s13 => ?_)) kx_I
        refine gc_rv (fun a14 h_ => ?_)
        subst h_
        refine gc_gd (fun hk => ?_)
        refine gc_callVN (f := fX3_of a14 r12 s13) (As := [.int r12]) (rest := []) (n := 1) (d' := 1) (b := a14) hC hnL (wX3_of (gLn X) Y hl hY a14 r12 s13) hk (ci := 3) rfl dX1_does_58 q761 q763 qs8 q77 q764 ⟨by decide +kernel, by decide +kernel⟩ rfl (by decide) (by decide) (Nat.le_of_ble_eq_true rfl) (kn_R (fun r15 s16 => ?_)) kx_R
        refine gc_aload_n hG (v := .ref a11) (refV_a _) dX1_does_61 rfl rfl ?_
        refine gc_aload_n hG (v := .ref a1) (refV_a _) dX1_does_62 rfl rfl ?_
        refine gc_gd (fun hk => ?_)
        refine gc_castE hC hk (ci := 5) rfl q961 dX1_does_63 ?_
        refine gc_rv (fun a17 h_ => ?_)
        subst h_
        refine gD_deals (rest := []) hC hnL hl hY dX1_does_66 q963 (by decide) (Nat.le_of_ble_eq_true rfl) (kn_Vx (fun r18 s19 => ?_)) (kx_Vx (fun e20 s21 => ?_))
        · refine gc_goto hG (tgt := 92) dX1_does_71 (by decide) ?_
          exact gc_vret hC hrt rfl dX1_does_92
        · refine gx_ite (fun hk => ?_) ?_
          · exact gx_outR hC hk (ci := 9) rfl rfl (by rw [hT]; exact all_cons (a := (tableOf [(50, 71, 74, 248), (50, 71, 74, 250)])[0]) (Or.inr ⟨by decide, "ActorTrees$StashFull", q725, by decide +kernel⟩) (all_cons (a := (tableOf [(50, 71, 74, 248), (50, 71, 74, 250)])[1]) (Or.inr ⟨by decide, "ActorTrees$StackFull", q726, by decide +kernel⟩) (all_nil)))
          · refine gx_ite (fun hk => ?_) ?_
            · refine gx_catchR hC hk (ci := 10) rfl [] ((tableOf [(50, 71, 74, 248), (50, 71, 74, 250)])[0]) [(tableOf [(50, 71, 74, 248), (50, 71, 74, 250)])[1]] (by rw [hT]; rfl) (fun _ h => absurd h List.not_mem_nil) rfl (by decide) q725 q790 rfl ?_
              refine gc_astore_n hG (refV_a _) dX1_does_74 rfl (Nat.le_of_ble_eq_true rfl) (lv' := [(0, _), (1, _), (2, _), (3, _)]) rfl ?_
              refine gc_new hC (ci := 9) tyX11 tyX11_ok rfl in_X11 dX1_does_75 q719 q728 q91 (by decide +kernel) ?_
              refine gc_letS (fun s22 => ?_)
              refine gc_dup hG dX1_does_78 rfl ?_
              refine gc_aload_n hG (v := .ref a11) (refV_a _) dX1_does_79 rfl rfl ?_
              refine gc_gd (fun hk => ?_)
              refine gc_getN hC (ci := 4) (j := 0) (v := .int (cI s22 26 a11)) hk dX1_does_80 rfl (by decide) in_X5 q283 (fun _ h => h) rfl ?_
              refine gc_letv (fun x23 h_ => ?_)
              refine gc_aload_n hG (v := .ref e20) (refV_a _) dX1_does_83 rfl rfl ?_
              refine gD_why (rest := [.int x23, .ref (cn s21), .ref (cn s21)]) hC hnL hl hY dX1_does_84 q966 (by decide) (Nat.le_of_ble_eq_true rfl) (kn_I (fun r24 s25 => ?_)) kx_I
              refine gc_aload_n hG (v := .ref e20) (refV_a _) dX1_does_87 rfl rfl ?_
              refine gc_callI (f := fX11_init_2 (cn s21) x23 r24 (some e20) s25) (As := [.int x23, .int r24, .ref e20]) (rest := [.ref (cn s21)]) (n := 3) (d' := 3) (b := (cn s21)) hC hnL (wX11_init_2 (gLn X) Y hl hY (cn s21) x23 r24 (some e20) s25) dX1_does_88 q975 q740 q91 q741 ⟨by decide +kernel, by decide +kernel⟩ rfl rfl (by decide) (by decide) (Nat.le_of_ble_eq_true rfl) (kn_V (fun r26 s27 => ?_)) kx_V
              refine gc_athrow hG dX1_does_91 ?_
              refine gx_gd (fun hk => ?_)
              exact gx_outR hC hk (ci := 9) rfl rfl (by rw [hT]; exact all_cons (a := (tableOf [(50, 71, 74, 248), (50, 71, 74, 250)])[0]) (Or.inl rfl) (all_cons (a := (tableOf [(50, 71, 74, 248), (50, 71, 74, 250)])[1]) (Or.inl rfl) (all_nil)))
            · refine gx_gd (fun hk => ?_)
              refine gx_catchR hC hk (ci := 11) rfl [(tableOf [(50, 71, 74, 248), (50, 71, 74, 250)])[0]] ((tableOf [(50, 71, 74, 248), (50, 71, 74, 250)])[1]) [] (by rw [hT]; rfl) (List.forall_mem_cons.mpr ⟨Or.inr ⟨by decide, "ActorTrees$StashFull", q725, by decide +kernel⟩, fun _ h => absurd h List.not_mem_nil⟩) rfl (by decide) q726 q870 rfl ?_
              refine gc_astore_n hG (refV_a _) dX1_does_74 rfl (Nat.le_of_ble_eq_true rfl) (lv' := [(0, _), (1, _), (2, _), (3, _)]) rfl ?_
              refine gc_new hC (ci := 9) tyX11 tyX11_ok rfl in_X11 dX1_does_75 q719 q728 q91 (by decide +kernel) ?_
              refine gc_letS (fun s28 => ?_)
              refine gc_dup hG dX1_does_78 rfl ?_
              refine gc_aload_n hG (v := .ref a11) (refV_a _) dX1_does_79 rfl rfl ?_
              refine gc_gd (fun hk => ?_)
              refine gc_getN hC (ci := 4) (j := 0) (v := .int (cI s28 26 a11)) hk dX1_does_80 rfl (by decide) in_X5 q283 (fun _ h => h) rfl ?_
              refine gc_letv (fun x29 h_ => ?_)
              refine gc_aload_n hG (v := .ref e20) (refV_a _) dX1_does_83 rfl rfl ?_
              refine gD_why (rest := [.int x29, .ref (cn s21), .ref (cn s21)]) hC hnL hl hY dX1_does_84 q966 (by decide) (Nat.le_of_ble_eq_true rfl) (kn_I (fun r30 s31 => ?_)) kx_I
              refine gc_aload_n hG (v := .ref e20) (refV_a _) dX1_does_87 rfl rfl ?_
              refine gc_callI (f := fX11_init_2 (cn s21) x29 r30 (some e20) s31) (As := [.int x29, .int r30, .ref e20]) (rest := [.ref (cn s21)]) (n := 3) (d' := 3) (b := (cn s21)) hC hnL (wX11_init_2 (gLn X) Y hl hY (cn s21) x29 r30 (some e20) s31) dX1_does_88 q975 q740 q91 q741 ⟨by decide +kernel, by decide +kernel⟩ rfl rfl (by decide) (by decide) (Nat.le_of_ble_eq_true rfl) (kn_V (fun r32 s33 => ?_)) kx_V
              refine gc_athrow hG dX1_does_91 ?_
              refine gx_gd (fun hk => ?_)
              exact gx_outR hC hk (ci := 9) rfl rfl (by rw [hT]; exact all_cons (a := (tableOf [(50, 71, 74, 248), (50, 71, 74, 250)])[0]) (Or.inl rfl) (all_cons (a := (tableOf [(50, 71, 74, 248), (50, 71, 74, 250)])[1]) (Or.inl rfl) (all_nil)))
      · refine gc_aload_n hG (v := .ref a1) (refV_a _) dX1_does_7 rfl rfl ?_
        refine gc_gd (fun hk => ?_)
        refine gc_castE hC hk (ci := 8) rfl q673 dX1_does_8 ?_
        refine gc_astore_n hG (refV_a _) dX1_does_11 rfl (Nat.le_of_ble_eq_true rfl) (lv' := [(0, _), (1, _), (2, _), (3, _)]) rfl ?_
        refine gc_aload_n hG (v := vr v1) (refV_x _) dX1_does_12 rfl rfl ?_
        refine gc_rv (fun a34 h_ => ?_)
        subst h_
        refine gc_gd (fun hk => ?_)
        refine gc_callV (f := fX5_does a34 t) (As := []) (rest := []) (n := 0) (d' := 1) (b := a34) hC hnL (wX5_does (gLn X) Y hl hY a34 t) hk (ci := 4) rfl dX1_does_13 q727 q427 q428 q79 q429 ⟨by decide +kernel, by decide +kernel⟩ rfl (by decide) (by decide) (Nat.le_of_ble_eq_true rfl) (kn_I (fun r35 s36 => ?_)) kx_I
        refine gc_iconst hG (nI 5) dX1_does_16 (by decide) ?_
        refine gc_icmp_ne hG (tgt := 33) dX1_does_17 (by decide) ?_ ?_
        · refine gc_new hC (ci := 9) tyX11 tyX11_ok rfl in_X11 dX1_does_20 q719 q728 q91 (by decide +kernel) ?_
          refine gc_letS (fun s37 => ?_)
          refine gc_dup hG dX1_does_23 rfl ?_
          refine gc_aload_n hG (v := .ref a34) (refV_a _) dX1_does_24 rfl rfl ?_
          refine gc_gd (fun hk => ?_)
          refine gc_getN hC (ci := 4) (j := 0) (v := .int (cI s37 26 a34)) hk dX1_does_25 rfl (by decide) in_X5 q283 (fun _ h => h) rfl ?_
          refine gc_letv (fun x38 h_ => ?_)
          refine gc_iconst hG (nI 2) dX1_does_28 (by decide) ?_
          refine gc_callI (f := fX11_init (cn s36) x38 (nI 2) s37) (As := [.int x38, .int (nI 2)]) (rest := [.ref (cn s36)]) (n := 2) (d' := 4) (b := (cn s36)) hC hnL (wX11_init (gLn X) Y hl hY (cn s36) x38 (nI 2) s37) dX1_does_29 q736 q737 q91 q738 ⟨by decide +kernel, by decide +kernel⟩ rfl rfl (by decide) (by decide) (Nat.le_of_ble_eq_true rfl) (kn_V (fun r39 s40 => ?_)) kx_V
          refine gc_athrow hG dX1_does_32 ?_
          refine gx_gd (fun hk => ?_)
          exact gx_outR hC hk (ci := 9) rfl rfl (by rw [hT]; exact all_cons (a := (tableOf [(50, 71, 74, 248), (50, 71, 74, 250)])[0]) (Or.inl rfl) (all_cons (a := (tableOf [(50, 71, 74, 248), (50, 71, 74, 250)])[1]) (Or.inl rfl) (all_nil)))
        · refine gc_aload_n hG (v := .ref a34) (refV_a _) dX1_does_33 rfl rfl ?_
          refine gc_dup hG dX1_does_34 rfl ?_
          refine gc_gd (fun hk => ?_)
          refine gc_getN hC (ci := 4) (j := 8) (v := .int (cI s36 34 a34)) hk dX1_does_35 rfl (by decide) in_X5 q306 (fun _ h => h) rfl ?_
          refine gc_letv (fun x41 h_ => ?_)
          refine gc_bipush hG (nI 100) dX1_does_38 (by decide) ?_
          refine gc_aload_n hG (v := .ref a1) (refV_a _) dX1_does_40 rfl rfl ?_
          refine gc_gd (fun hk => ?_)
          refine gc_getN hC (ci := 8) (j := 1) (v := .int (cI s36 50 a1)) hk dX1_does_41 rfl (by decide) in_X10 q680 (fun _ h => h) rfl ?_
          refine gc_letv (fun x42 h_ => ?_)
          refine gc_iadd hG dX1_does_44 ?_
          refine gc_iadd hG dX1_does_45 ?_
          refine gc_gd (fun hk => ?_)
          have pt := pt_I (s := s36) (f := 34) (a := a34) (x := (x41 + ((nI 100) + x42))) rfl
          refine gc_putN hC tyX5 tyX5_ok nmX5 hk dX1_does_46 (ci := 4) (j := 8) (Or.inl (by decide)) rfl (by decide) in_X5 q306 (fun _ h => h) rfl (tyX5_ok 8 (by decide)) (fun _ => rfl) (fun _ => rfl) pt.1.1 pt.1.2.1 pt.1.2.2.1 pt.1.2.2.2 pt.2.1 pt.2.2.1 pt.2.2.2 ?_
          refine gc_letS (fun s43 => ?_)
          exact gc_vret hC hrt rfl dX1_does_49
    · refine gc_instNo hC hk (ci := 5) rfl q673 (by decide +kernel) dX1_does_1 ?_
      refine gc_letvE (by rw [if_neg (by rw [hk]; decide)]; rfl) (fun x9 h_ => ?_)
      refine gc_if_eq hG (tgt := 50) dX1_does_4 (by decide) ?_ ?_
      · refine gc_aload_n hG (v := .ref v0) (refV_a _) dX1_does_50 rfl rfl ?_
        refine gc_gd (fun hk => ?_)
        refine gc_get hC (ci := 1) (j := 14) (v := vr (cR t 20 v0)) hk dX1_does_51 rfl (by decide) in_X1 q190 (fun _ h => h) rfl ?_
        refine gc_letr (fun x10 h_ => ?_)
        refine gc_aload_n hG (v := vr v1) (refV_x _) dX1_does_54 rfl rfl ?_
        refine gc_rv (fun a11 h_ => ?_)
        subst h_
        refine gc_gd (fun hk => ?_)
        refine gc_callV (f := fX5_does a11 t) (As := []) (rest := [vr x10]) (n := 0) (d' := 1) (b := a11) hC hnL (wX5_does (gLn X) Y hl hY a11 t) hk (ci := 4) rfl dX1_does_55 q727 q427 q428 q79 q429 ⟨by decide +kernel, by decide +kernel⟩ rfl (by decide) (by decide) (by simp [cat_vr, cat_r, cat_i, cat_n]) (kn_I (fun r12 s13 => ?_)) kx_I
        refine gc_rv (fun a14 h_ => ?_)
        subst h_
        refine gc_gd (fun hk => ?_)
        refine gc_callVN (f := fX3_of a14 r12 s13) (As := [.int r12]) (rest := []) (n := 1) (d' := 1) (b := a14) hC hnL (wX3_of (gLn X) Y hl hY a14 r12 s13) hk (ci := 3) rfl dX1_does_58 q761 q763 qs8 q77 q764 ⟨by decide +kernel, by decide +kernel⟩ rfl (by decide) (by decide) (Nat.le_of_ble_eq_true rfl) (kn_R (fun r15 s16 => ?_)) kx_R
        refine gc_aload_n hG (v := .ref a11) (refV_a _) dX1_does_61 rfl rfl ?_
        refine gc_aload_n hG (v := .ref a1) (refV_a _) dX1_does_62 rfl rfl ?_
        refine gc_gd (fun hk => ?_)
        refine gc_castE hC hk (ci := 5) rfl q961 dX1_does_63 ?_
        refine gc_rv (fun a17 h_ => ?_)
        subst h_
        refine gD_deals (rest := []) hC hnL hl hY dX1_does_66 q963 (by decide) (Nat.le_of_ble_eq_true rfl) (kn_Vx (fun r18 s19 => ?_)) (kx_Vx (fun e20 s21 => ?_))
        · refine gc_goto hG (tgt := 92) dX1_does_71 (by decide) ?_
          exact gc_vret hC hrt rfl dX1_does_92
        · refine gx_ite (fun hk => ?_) ?_
          · exact gx_outR hC hk (ci := 9) rfl rfl (by rw [hT]; exact all_cons (a := (tableOf [(50, 71, 74, 248), (50, 71, 74, 250)])[0]) (Or.inr ⟨by decide, "ActorTrees$StashFull", q725, by decide +kernel⟩) (all_cons (a := (tableOf [(50, 71, 74, 248), (50, 71, 74, 250)])[1]) (Or.inr ⟨by decide, "ActorTrees$StackFull", q726, by decide +kernel⟩) (all_nil)))
          · refine gx_ite (fun hk => ?_) ?_
            · refine gx_catchR hC hk (ci := 10) rfl [] ((tableOf [(50, 71, 74, 248), (50, 71, 74, 250)])[0]) [(tableOf [(50, 71, 74, 248), (50, 71, 74, 250)])[1]] (by rw [hT]; rfl) (fun _ h => absurd h List.not_mem_nil) rfl (by decide) q725 q790 rfl ?_
              refine gc_astore_n hG (refV_a _) dX1_does_74 rfl (Nat.le_of_ble_eq_true rfl) (lv' := [(0, _), (1, _), (2, _), (3, _)]) rfl ?_
              refine gc_new hC (ci := 9) tyX11 tyX11_ok rfl in_X11 dX1_does_75 q719 q728 q91 (by decide +kernel) ?_
              refine gc_letS (fun s22 => ?_)
              refine gc_dup hG dX1_does_78 rfl ?_
              refine gc_aload_n hG (v := .ref a11) (refV_a _) dX1_does_79 rfl rfl ?_
              refine gc_gd (fun hk => ?_)
              refine gc_getN hC (ci := 4) (j := 0) (v := .int (cI s22 26 a11)) hk dX1_does_80 rfl (by decide) in_X5 q283 (fun _ h => h) rfl ?_
              refine gc_letv (fun x23 h_ => ?_)
              refine gc_aload_n hG (v := .ref e20) (refV_a _) dX1_does_83 rfl rfl ?_
              refine gD_why (rest := [.int x23, .ref (cn s21), .ref (cn s21)]) hC hnL hl hY dX1_does_84 q966 (by decide) (Nat.le_of_ble_eq_true rfl) (kn_I (fun r24 s25 => ?_)) kx_I
              refine gc_aload_n hG (v := .ref e20) (refV_a _) dX1_does_87 rfl rfl ?_
              refine gc_callI (f := fX11_init_2 (cn s21) x23 r24 (some e20) s25) (As := [.int x23, .int r24, .ref e20]) (rest := [.ref (cn s21)]) (n := 3) (d' := 3) (b := (cn s21)) hC hnL (wX11_init_2 (gLn X) Y hl hY (cn s21) x23 r24 (some e20) s25) dX1_does_88 q975 q740 q91 q741 ⟨by decide +kernel, by decide +kernel⟩ rfl rfl (by decide) (by decide) (Nat.le_of_ble_eq_true rfl) (kn_V (fun r26 s27 => ?_)) kx_V
              refine gc_athrow hG dX1_does_91 ?_
              refine gx_gd (fun hk => ?_)
              exact gx_outR hC hk (ci := 9) rfl rfl (by rw [hT]; exact all_cons (a := (tableOf [(50, 71, 74, 248), (50, 71, 74, 250)])[0]) (Or.inl rfl) (all_cons (a := (tableOf [(50, 71, 74, 248), (50, 71, 74, 250)])[1]) (Or.inl rfl) (all_nil)))
            · refine gx_gd (fun hk => ?_)
              refine gx_catchR hC hk (ci := 11) rfl [(tableOf [(50, 71, 74, 248), (50, 71, 74, 250)])[0]] ((tableOf [(50, 71, 74, 248), (50, 71, 74, 250)])[1]) [] (by rw [hT]; rfl) (List.forall_mem_cons.mpr ⟨Or.inr ⟨by decide, "ActorTrees$StashFull", q725, by decide +kernel⟩, fun _ h => absurd h List.not_mem_nil⟩) rfl (by decide) q726 q870 rfl ?_
              refine gc_astore_n hG (refV_a _) dX1_does_74 rfl (Nat.le_of_ble_eq_true rfl) (lv' := [(0, _), (1, _), (2, _), (3, _)]) rfl ?_
              refine gc_new hC (ci := 9) tyX11 tyX11_ok rfl in_X11 dX1_does_75 q719 q728 q91 (by decide +kernel) ?_
              refine gc_letS (fun s28 => ?_)
              refine gc_dup hG dX1_does_78 rfl ?_
              refine gc_aload_n hG (v := .ref a11) (refV_a _) dX1_does_79 rfl rfl ?_
              refine gc_gd (fun hk => ?_)
              refine gc_getN hC (ci := 4) (j := 0) (v := .int (cI s28 26 a11)) hk dX1_does_80 rfl (by decide) in_X5 q283 (fun _ h => h) rfl ?_
              refine gc_letv (fun x29 h_ => ?_)
              refine gc_aload_n hG (v := .ref e20) (refV_a _) dX1_does_83 rfl rfl ?_
              refine gD_why (rest := [.int x29, .ref (cn s21), .ref (cn s21)]) hC hnL hl hY dX1_does_84 q966 (by decide) (Nat.le_of_ble_eq_true rfl) (kn_I (fun r30 s31 => ?_)) kx_I
              refine gc_aload_n hG (v := .ref e20) (refV_a _) dX1_does_87 rfl rfl ?_
              refine gc_callI (f := fX11_init_2 (cn s21) x29 r30 (some e20) s31) (As := [.int x29, .int r30, .ref e20]) (rest := [.ref (cn s21)]) (n := 3) (d' := 3) (b := (cn s21)) hC hnL (wX11_init_2 (gLn X) Y hl hY (cn s21) x29 r30 (some e20) s31) dX1_does_88 q975 q740 q91 q741 ⟨by decide +kernel, by decide +kernel⟩ rfl rfl (by decide) (by decide) (Nat.le_of_ble_eq_true rfl) (kn_V (fun r32 s33 => ?_)) kx_V
              refine gc_athrow hG dX1_does_91 ?_
              refine gx_gd (fun hk => ?_)
              exact gx_outR hC hk (ci := 9) rfl rfl (by rw [hT]; exact all_cons (a := (tableOf [(50, 71, 74, 248), (50, 71, 74, 250)])[0]) (Or.inl rfl) (all_cons (a := (tableOf [(50, 71, 74, 248), (50, 71, 74, 250)])[1]) (Or.inl rfl) (all_nil)))
      · refine gc_aload_n hG (v := .ref a1) (refV_a _) dX1_does_7 rfl rfl ?_
        refine gc_gd (fun hk => ?_)
        refine gc_castE hC hk (ci := 8) rfl q673 dX1_does_8 ?_
        refine gc_astore_n hG (refV_a _) dX1_does_11 rfl (Nat.le_of_ble_eq_true rfl) (lv' := [(0, _), (1, _), (2, _), (3, _)]) rfl ?_
        refine gc_aload_n hG (v := vr v1) (refV_x _) dX1_does_12 rfl rfl ?_
        refine gc_rv (fun a34 h_ => ?_)
        subst h_
        refine gc_gd (fun hk => ?_)
        refine gc_callV (f := fX5_does a34 t) (As := []) (rest := []) (n := 0) (d' := 1) (b := a34) hC hnL (wX5_does (gLn X) Y hl hY a34 t) hk (ci := 4) rfl dX1_does_13 q727 q427 q428 q79 q429 ⟨by decide +kernel, by decide +kernel⟩ rfl (by decide) (by decide) (Nat.le_of_ble_eq_true rfl) (kn_I (fun r35 s36 => ?_)) kx_I
        refine gc_iconst hG (nI 5) dX1_does_16 (by decide) ?_
        refine gc_icmp_ne hG (tgt := 33) dX1_does_17 (by decide) ?_ ?_
        · refine gc_new hC (ci := 9) tyX11 tyX11_ok rfl in_X11 dX1_does_20 q719 q728 q91 (by decide +kernel) ?_
          refine gc_letS (fun s37 => ?_)
          refine gc_dup hG dX1_does_23 rfl ?_
          refine gc_aload_n hG (v := .ref a34) (refV_a _) dX1_does_24 rfl rfl ?_
          refine gc_gd (fun hk => ?_)
          refine gc_getN hC (ci := 4) (j := 0) (v := .int (cI s37 26 a34)) hk dX1_does_25 rfl (by decide) in_X5 q283 (fun _ h => h) rfl ?_
          refine gc_letv (fun x38 h_ => ?_)
          refine gc_iconst hG (nI 2) dX1_does_28 (by decide) ?_
          refine gc_callI (f := fX11_init (cn s36) x38 (nI 2) s37) (As := [.int x38, .int (nI 2)]) (rest := [.ref (cn s36)]) (n := 2) (d' := 4) (b := (cn s36)) hC hnL (wX11_init (gLn X) Y hl hY (cn s36) x38 (nI 2) s37) dX1_does_29 q736 q737 q91 q738 ⟨by decide +kernel, by decide +kernel⟩ rfl rfl (by decide) (by decide) (Nat.le_of_ble_eq_true rfl) (kn_V (fun r39 s40 => ?_)) kx_V
          refine gc_athrow hG dX1_does_32 ?_
          refine gx_gd (fun hk => ?_)
          exact gx_outR hC hk (ci := 9) rfl rfl (by rw [hT]; exact all_cons (a := (tableOf [(50, 71, 74, 248), (50, 71, 74, 250)])[0]) (Or.inl rfl) (all_cons (a := (tableOf [(50, 71, 74, 248), (50, 71, 74, 250)])[1]) (Or.inl rfl) (all_nil)))
        · refine gc_aload_n hG (v := .ref a34) (refV_a _) dX1_does_33 rfl rfl ?_
          refine gc_dup hG dX1_does_34 rfl ?_
          refine gc_gd (fun hk => ?_)
          refine gc_getN hC (ci := 4) (j := 8) (v := .int (cI s36 34 a34)) hk dX1_does_35 rfl (by decide) in_X5 q306 (fun _ h => h) rfl ?_
          refine gc_letv (fun x41 h_ => ?_)
          refine gc_bipush hG (nI 100) dX1_does_38 (by decide) ?_
          refine gc_aload_n hG (v := .ref a1) (refV_a _) dX1_does_40 rfl rfl ?_
          refine gc_gd (fun hk => ?_)
          refine gc_getN hC (ci := 8) (j := 1) (v := .int (cI s36 50 a1)) hk dX1_does_41 rfl (by decide) in_X10 q680 (fun _ h => h) rfl ?_
          refine gc_letv (fun x42 h_ => ?_)
          refine gc_iadd hG dX1_does_44 ?_
          refine gc_iadd hG dX1_does_45 ?_
          refine gc_gd (fun hk => ?_)
          have pt := pt_I (s := s36) (f := 34) (a := a34) (x := (x41 + ((nI 100) + x42))) rfl
          refine gc_putN hC tyX5 tyX5_ok nmX5 hk dX1_does_46 (ci := 4) (j := 8) (Or.inl (by decide)) rfl (by decide) in_X5 q306 (fun _ h => h) rfl (tyX5_ok 8 (by decide)) (fun _ => rfl) (fun _ => rfl) pt.1.1 pt.1.2.1 pt.1.2.2.1 pt.1.2.2.2 pt.2.1 pt.2.2.1 pt.2.2.2 ?_
          refine gc_letS (fun s43 => ?_)
          exact gc_vret hC hrt rfl dX1_does_49
def fD_restarts (v0 : Nat) (v1 : Int32) (v2 : Int32) (t : cS) : Option (Int32 × cS) :=
  if cK t v0 = 30 then zI (fX0_lambda_strategyOf_0 v1 v2 t) else
  if cK t v0 = 31 then zI (fX0_lambda_strategyOf_1 v1 v2 t) else
  gd (cK t v0 = 32) (zI (fX0_lambda_strategyOf_2 v1 v2 t))
theorem mfD_restarts (v0 : Nat) (v1 : Int32) (v2 : Int32) (t : cS) : MO t (fD_restarts v0 v1 v2 t) := by
  unfold fD_restarts
  refine mo_ite (mo_zI (by apply mfX0_lambda_strategyOf_0)) ?_
  refine mo_ite (mo_zI (by apply mfX0_lambda_strategyOf_1)) ?_
  exact mo_gd (mo_zI (by apply mfX0_lambda_strategyOf_2))
set_option maxHeartbeats 4000000 in
theorem gD_restarts {α : Type} {X : gCx} {Y : cY} {M : cMd α} {t : cS} {pc d index count : Nat} {lv : List (Nat × Value)} {rest : List Value} {own : String} {cc : ByteArray} {K : Int32 → cS → Option (α × cS)} {v0 : Nat} {v1 : Int32} {v2 : Int32} (hC : cOk X Y own cc d) (hnL : gLoc X = M.1) (hl : (gLn X).stackTraces = false) (hY : ∀ q, q < Y.2.2.2.2.size → ¬ Y.2.2.2.1 q) (hdg : decode cc pc = .ok (.invokeinterface index count, 5)) (w1 : Cond.methodLink own index ⟨"ActorTrees$Strategy", "restarts", "(II)Z"⟩ ∈ lw_all) (hd : 2 + 1 ≤ d) (hs8 : (rest.map fun v => v.category).sum ≤ 8) (kn : ∀ (r : Int32) (s1 : cS) (v : Option Value), rI r = .inl v → GC X Y M (K r s1) s1 (pc + 5) lv (v.toList ++ rest)) (kx : ∀ (r : Int32) (s1 : cS) (x : Nat), rI r = .inr x → GX X Y M (K r s1) s1 pc lv x) : GC X Y M (ob (fD_restarts v0 v1 v2 t) K) t pc lv (.int v2 :: .int v1 :: .ref v0 :: rest) := by
  rw [fD_restarts]
  refine gc_obif (fun hk => gc_lamA (x := ⟨"ActorTrees$Strategy", "restarts", "(II)Z"⟩) (y := yX0_lambda_strategyOf_0) (d' := 1) hC hnL (wX0_lambda_strategyOf_0 (gLn X) Y hl hY v1 v2 t) (by decide) hk (by decide) (List.mem_of_getElem? (i := 0) rfl) (by decide +kernel) ⟨rfl, rfl, by decide +kernel⟩ (by unfold mdC; decide +kernel) (by unfold mdT; decide +kernel) ⟨⟨rfl, rfl, by decide +kernel⟩, rfl⟩ (by decide +kernel) q267 q74 q268 ⟨⟨by decide +kernel, by decide +kernel⟩, by decide +kernel⟩ hdg w1 (by decide +kernel) (by omega) hs8 kn kx) (fun _ => ?_)
  refine gc_obif (fun hk => gc_lamA (x := ⟨"ActorTrees$Strategy", "restarts", "(II)Z"⟩) (y := yX0_lambda_strategyOf_1) (d' := 1) hC hnL (wX0_lambda_strategyOf_1 (gLn X) Y hl hY v1 v2 t) (by decide) hk (by decide) (List.mem_of_getElem? (i := 1) rfl) (by decide +kernel) ⟨rfl, rfl, by decide +kernel⟩ (by unfold mdC; decide +kernel) (by unfold mdT; decide +kernel) ⟨⟨rfl, rfl, by decide +kernel⟩, rfl⟩ (by decide +kernel) q269 q74 q270 ⟨⟨by decide +kernel, by decide +kernel⟩, by decide +kernel⟩ hdg w1 (by decide +kernel) (by omega) hs8 kn kx) (fun _ => ?_)
  exact gc_obgd (fun hk => gc_lamA (x := ⟨"ActorTrees$Strategy", "restarts", "(II)Z"⟩) (y := yX0_lambda_strategyOf_2) (d' := 1) hC hnL (wX0_lambda_strategyOf_2 (gLn X) Y hl hY v1 v2 t) (by decide) hk (by decide) (List.mem_of_getElem? (i := 2) rfl) (by decide +kernel) ⟨rfl, rfl, by decide +kernel⟩ (by unfold mdC; decide +kernel) (by unfold mdT; decide +kernel) ⟨⟨rfl, rfl, by decide +kernel⟩, rfl⟩ (by decide +kernel) q271 q74 q272 ⟨⟨by decide +kernel, by decide +kernel⟩, by decide +kernel⟩ hdg w1 (by decide +kernel) (by omega) hs8 kn kx)
def fX1_restarts (v0 : Nat) (v1 : Option Nat) (t : cS) : Option (Unit × cS) :=
  gd (cK t v0 = 2) (
  ob (fX1_stopsBelow (fX1_stops 13) v0 v1 t) (fun r1 s2 =>
  rv v1 (fun a3 =>
  gd (cK s2 a3 = 5) (
  letv (sI s2 34 a3 (nI 0)) (fun s4 =>
  gd (cK s4 a3 = 5) (
  letv (sI s4 36 a3 (nI 1)) (fun s5 =>
  gd (cK s5 a3 = 5) (
  letv (cR s5 40 a3) (fun x6 =>
  rv x6 (fun a7 =>
  gd (cK s5 a7 = 3) (
  ob (fX2_empties a7 s5) (fun r8 s9 =>
  gd (cK s9 v0 = 2) (
  ob (fX1_untimed v0 (some a3) s9) (fun r10 s11 =>
  gd (cK s11 v0 = 2) (
  ob (fX1_unstashes v0 (some a3) s11) (fun r12 s13 =>
  gd (cK s13 v0 = 2) (
  letv (cI s13 18 v0) (fun x14 =>
  gd (cK s13 a3 = 5) (
  letv (cI s13 26 a3) (fun x15 =>
  gd (cK s13 v0 = 2) (
  letv (sI s13 18 v0 (x14 ||| (ishl32 (nI 1) x15))) (fun s16 =>
  (some ((), s16))
  )
  )
  )
  )
  )
  )
  )
  )
  )
  )
  )
  )
  )
  )
  )
  )
  )
  )
  )
  )
  )
  )
theorem mfX1_restarts (v0 : Nat) (v1 : Option Nat) (t : cS) : MO t (fX1_restarts v0 v1 t) := by
  unfold fX1_restarts
  refine mo_gd ?_
  refine mo_ob (by apply mfX1_stopsBelow; first | exact hrec | exact mfX1_stops 13) (fun _ _ => ?_)
  refine mo_rv (fun _ => ?_)
  refine mo_gd ?_
  refine mo_letS cMo_sI (fun _ => ?_)
  refine mo_gd ?_
  refine mo_letS cMo_sI (fun _ => ?_)
  refine mo_gd ?_
  refine mo_letv (fun _ => ?_)
  refine mo_rv (fun _ => ?_)
  refine mo_gd ?_
  refine mo_ob (by apply mfX2_empties) (fun _ _ => ?_)
  refine mo_gd ?_
  refine mo_ob (by apply mfX1_untimed) (fun _ _ => ?_)
  refine mo_gd ?_
  refine mo_ob (by apply mfX1_unstashes) (fun _ _ => ?_)
  refine mo_gd ?_
  refine mo_letv (fun _ => ?_)
  refine mo_gd ?_
  refine mo_letv (fun _ => ?_)
  refine mo_gd ?_
  refine mo_letS cMo_sI (fun _ => ?_)
  exact mo_some
set_option maxHeartbeats 4000000 in
theorem wX1_restarts (l : Launch) (Y : cY) (hl : l.stackTraces = false) (hY : ∀ q, q < Y.2.2.2.2.size → ¬ Y.2.2.2.1 q) (v0 : Nat) (v1 : Option Nat) (t : cS) : cFn l Y yX1_restarts (ws_ yX1_restarts cX1_restarts 2 none) 33 [.ref v0, vr v1] t (fX1_restarts v0 v1 t) rV := by
  refine cmet (av := [.ref v0, vr v1]) (mfX1_restarts v0 v1 t) hl hY (by decide +kernel) (lg_le (List.forall_mem_cons.mpr ⟨rfl, List.forall_mem_cons.mpr ⟨(cat_vr _), fun _ h => absurd h List.not_mem_nil⟩⟩) (Nat.le_of_ble_eq_true rfl)) (lv_args_cat (List.forall_mem_cons.mpr ⟨rfl, List.forall_mem_cons.mpr ⟨(cat_vr _), fun _ h => absurd h List.not_mem_nil⟩⟩)) ?_
  intro X ad0 hln hC hnL hrt hnm hT hmd
  subst hln
  have hG := hC.1
  rw [lv_args_s (List.forall_mem_cons.mpr ⟨rfl, List.forall_mem_cons.mpr ⟨(cat_vr _), fun _ h => absurd h List.not_mem_nil⟩⟩)]
  show GC X Y (cM Y X 2 t ad0 rV) _ t 0 [(0, .ref v0), (1, vr v1)] []
  unfold fX1_restarts
  refine gc_aload_n hG (v := .ref v0) (refV_a _) dX1_restarts_0 rfl rfl ?_
  refine gc_aload_n hG (v := vr v1) (refV_x _) dX1_restarts_1 rfl rfl ?_
  refine gc_gd (fun hk => ?_)
  refine gc_callV (f := fX1_stopsBelow (fX1_stops 13) v0 v1 t) (As := [vr v1]) (rest := []) (n := 1) (d' := ((5 + 2 * 13) + 1)) (b := v0) hC hnL (wX1_stopsBelow (gLn X) Y hl hY (fX1_stops 13) (5 + 2 * 13) (by omega) (wX1_stops 13 (gLn X) Y hl hY) (mfX1_stops 13) v0 v1 t) hk (ci := 1) rfl dX1_restarts_2 q640 q641 q642 q75 q643 ⟨by decide +kernel, by decide +kernel⟩ rfl (by decide) (by decide) (Nat.le_of_ble_eq_true rfl) (kn_V (fun r1 s2 => ?_)) kx_V
  refine gc_aload_n hG (v := vr v1) (refV_x _) dX1_restarts_5 rfl rfl ?_
  refine gc_iconst hG (nI 0) dX1_restarts_6 (by decide) ?_
  refine gc_rv (fun a3 h_ => ?_)
  subst h_
  refine gc_gd (fun hk => ?_)
  have pt := pt_I (s := s2) (f := 34) (a := a3) (x := (nI 0)) rfl
  refine gc_putN hC tyX5 tyX5_ok nmX5 hk dX1_restarts_7 (ci := 4) (j := 8) (Or.inl (by decide)) rfl (by decide) in_X5 q306 (fun _ h => h) rfl (tyX5_ok 8 (by decide)) (fun _ => rfl) (fun _ => rfl) pt.1.1 pt.1.2.1 pt.1.2.2.1 pt.1.2.2.2 pt.2.1 pt.2.2.1 pt.2.2.2 ?_
  refine gc_letS (fun s4 => ?_)
  refine gc_aload_n hG (v := .ref a3) (refV_a _) dX1_restarts_10 rfl rfl ?_
  refine gc_iconst hG (nI 1) dX1_restarts_11 (by decide) ?_
  refine gc_gd (fun hk => ?_)
  have pt := pt_I (s := s4) (f := 36) (a := a3) (x := (nI 1)) rfl
  refine gc_putN hC tyX5 tyX5_ok nmX5 hk dX1_restarts_12 (ci := 4) (j := 10) (Or.inl (by decide)) rfl (by decide) in_X5 q311 (fun _ h => h) rfl (tyX5_ok 10 (by decide)) (fun _ => rfl) (fun _ => rfl) pt.1.1 pt.1.2.1 pt.1.2.2.1 pt.1.2.2.2 pt.2.1 pt.2.2.1 pt.2.2.2 ?_
  refine gc_letS (fun s5 => ?_)
  refine gc_aload_n hG (v := .ref a3) (refV_a _) dX1_restarts_15 rfl rfl ?_
  refine gc_gd (fun hk => ?_)
  refine gc_getN hC (ci := 4) (j := 14) (v := vr (cR s5 40 a3)) hk dX1_restarts_16 rfl (by decide) in_X5 q323 (fun _ h => h) rfl ?_
  refine gc_letr (fun x6 h_ => ?_)
  refine gc_rv (fun a7 h_ => ?_)
  subst h_
  refine gc_gd (fun hk => ?_)
  refine gc_callV (f := fX2_empties a7 s5) (As := []) (rest := []) (n := 0) (d' := 1) (b := a7) hC hnL (wX2_empties (gLn X) Y hl hY a7 s5) hk (ci := 2) rfl dX1_restarts_19 q645 q646 q647 q76 q648 ⟨by decide +kernel, by decide +kernel⟩ rfl (by decide) (by decide) (Nat.le_of_ble_eq_true rfl) (kn_V (fun r8 s9 => ?_)) kx_V
  refine gc_aload_n hG (v := .ref v0) (refV_a _) dX1_restarts_22 rfl rfl ?_
  refine gc_aload_n hG (v := .ref a3) (refV_a _) dX1_restarts_23 rfl rfl ?_
  refine gc_gd (fun hk => ?_)
  refine gc_callV (f := fX1_untimed v0 (some a3) s9) (As := [.ref a3]) (rest := []) (n := 1) (d' := 5) (b := v0) hC hnL (wX1_untimed (gLn X) Y hl hY v0 (some a3) s9) hk (ci := 1) rfl dX1_restarts_24 q649 q650 q651 q75 q652 ⟨by decide +kernel, by decide +kernel⟩ rfl (by decide) (by decide) (Nat.le_of_ble_eq_true rfl) (kn_V (fun r10 s11 => ?_)) kx_V
  refine gc_aload_n hG (v := .ref v0) (refV_a _) dX1_restarts_27 rfl rfl ?_
  refine gc_aload_n hG (v := .ref a3) (refV_a _) dX1_restarts_28 rfl rfl ?_
  refine gc_gd (fun hk => ?_)
  refine gc_callV (f := fX1_unstashes v0 (some a3) s11) (As := [.ref a3]) (rest := []) (n := 1) (d' := 5) (b := v0) hC hnL (wX1_unstashes (gLn X) Y hl hY v0 (some a3) s11) hk (ci := 1) rfl dX1_restarts_29 q999 q808 q809 q75 q810 ⟨by decide +kernel, by decide +kernel⟩ rfl (by decide) (by decide) (Nat.le_of_ble_eq_true rfl) (kn_V (fun r12 s13 => ?_)) kx_V
  refine gc_aload_n hG (v := .ref v0) (refV_a _) dX1_restarts_32 rfl rfl ?_
  refine gc_dup hG dX1_restarts_33 rfl ?_
  refine gc_gd (fun hk => ?_)
  refine gc_get hC (ci := 1) (j := 12) (v := .int (cI s13 18 v0)) hk dX1_restarts_34 rfl (by decide) in_X1 q186 (fun _ h => h) rfl ?_
  refine gc_letv (fun x14 h_ => ?_)
  refine gc_iconst hG (nI 1) dX1_restarts_37 (by decide) ?_
  refine gc_aload_n hG (v := .ref a3) (refV_a _) dX1_restarts_38 rfl rfl ?_
  refine gc_gd (fun hk => ?_)
  refine gc_getN hC (ci := 4) (j := 0) (v := .int (cI s13 26 a3)) hk dX1_restarts_39 rfl (by decide) in_X5 q283 (fun _ h => h) rfl ?_
  refine gc_letv (fun x15 h_ => ?_)
  refine gc_ishl hG dX1_restarts_42 ?_
  refine gc_ior hG dX1_restarts_43 ?_
  refine gc_gd (fun hk => ?_)
  have pt := pt_I (s := s13) (f := 18) (a := v0) (x := (x14 ||| (ishl32 (nI 1) x15))) rfl
  refine gc_put hC tyX1 tyX1_ok nmX1 hk dX1_restarts_44 (ci := 1) (j := 12) (Or.inl (by decide)) rfl (by decide) in_X1 q186 (fun _ h => h) rfl (tyX1_ok 12 (by decide)) (fun _ => rfl) (fun _ => rfl) pt.1.1 pt.1.2.1 pt.1.2.2.1 pt.1.2.2.2 pt.2.1 pt.2.2.1 pt.2.2.2 ?_
  refine gc_letS (fun s16 => ?_)
  exact gc_vret hC hrt rfl dX1_restarts_47
def fX5_notes_L0 (v0 : Nat) (v1 : Int32) (kx : cS → Option (Unit × cS)) : Nat → cS → Option (Unit × cS)
  | 0, _ => none
  | k + 1, t =>
    gd (cK t v0 = 5) (
    letv (cR t 40 v0) (fun x1 =>
    rv x1 (fun a2 =>
    gd (cK t a2 = 3) (
    letv (cI t 24 a2) (fun x3 =>
    if 0 < x3 then
      gd (cK t v0 = 5) (
      letv (cR t 40 v0) (fun x4 =>
      rv x4 (fun a5 =>
      gd (cK t a5 = 3) (
      letv (cR t 22 a5) (fun x6 =>
      rv x6 (fun a7 =>
      gd (cK t a7 = 7) (
      letv (cR t 45 a7) (fun x8 =>
      rv x8 (fun a9 =>
      gd (cK t a9 = 17) (
      gd (cK t a9 = 17) (
      ob (fJ5_intValue a9 t) (fun r10 s11 =>
      gd (cK s11 v0 = 5) (
      letv (cI s11 32 v0) (fun x12 =>
      if r10 < (v1 - x12) then
        gd (cK s11 v0 = 5) (
        letv (cR s11 40 v0) (fun x13 =>
        rv x13 (fun a14 =>
        gd (cK s11 a14 = 3) (
        ob (fX2_takes a14 s11) (fun r15 s16 =>
        fX5_notes_L0 v0 v1 kx k s16
        )
        )
        )
        )
        )
      else
        kx s11
      )
      )
      )
      )
      )
      )
      )
      )
      )
      )
      )
      )
      )
      )
    else
      kx t
    )
    )
    )
    )
    )
theorem mfX5_notes_L0 (v0 : Nat) (v1 : Int32) (kx : cS → Option (Unit × cS)) (hkx : ∀  (t : cS), MO t (kx t)) : ∀ (k : Nat)  (t : cS), MO t (fX5_notes_L0 v0 v1 kx k t) := by
  intro k
  induction k with
  | zero => intro t; exact mo_none
  | succ k ih =>
    intro t
    rw [fX5_notes_L0]
    refine mo_gd ?_
    refine mo_letv (fun _ => ?_)
    refine mo_rv (fun _ => ?_)
    refine mo_gd ?_
    refine mo_letv (fun _ => ?_)
    refine mo_ite ?_ ?_
    · refine mo_gd ?_
      refine mo_letv (fun _ => ?_)
      refine mo_rv (fun _ => ?_)
      refine mo_gd ?_
      refine mo_letv (fun _ => ?_)
      refine mo_rv (fun _ => ?_)
      refine mo_gd ?_
      refine mo_letv (fun _ => ?_)
      refine mo_rv (fun _ => ?_)
      refine mo_gd ?_
      refine mo_gd ?_
      refine mo_ob (by apply mfJ5_intValue) (fun _ _ => ?_)
      refine mo_gd ?_
      refine mo_letv (fun _ => ?_)
      refine mo_ite ?_ ?_
      · refine mo_gd ?_
        refine mo_letv (fun _ => ?_)
        refine mo_rv (fun _ => ?_)
        refine mo_gd ?_
        refine mo_ob (by apply mfX2_takes) (fun _ _ => ?_)
        exact ih _
      · exact hkx _
    · exact hkx _
set_option maxHeartbeats 4000000 in
theorem gfX5_notes_L0 {X : gCx} {Y : cY} {s0 : cS} {ad0 : Nat → Nat} (hC : cOk X Y RX5 cX5_notes 4) (hl : (gLn X).stackTraces = false) (hY : ∀ q, q < Y.2.2.2.2.size → ¬ Y.2.2.2.1 q) (hnL : gLoc X = 2) (hrt : gRet X = none) (hnm : X.2.2.2.2.2.2.2.2.1.name = "notes") (hT : gTab X = []) (hmd : (gSt X).methodNamed? yX5_notes = some (gMe X)) (v0 : Nat) (v1 : Int32) (kx : cS → Option (Unit × cS)) (hkx : ∀  (t : cS), GC X Y (cM Y X 2 s0 ad0 rV) (kx t) t 46 [(0, .ref v0), (1, .int v1)] []) : ∀ (k : Nat)  (t : cS), GC X Y (cM Y X 2 s0 ad0 rV) (fX5_notes_L0 v0 v1 kx k t) t 0 [(0, .ref v0), (1, .int v1)] [] := by
  have hG := hC.1
  intro k
  induction k with
  | zero => intro t; exact gc_none
  | succ k ih =>
    intro t
    rw [fX5_notes_L0]
    refine gc_aload_n hG (v := .ref v0) (refV_a _) dX5_notes_0 rfl rfl ?_
    refine gc_gd (fun hk => ?_)
    refine gc_get hC (ci := 4) (j := 14) (v := vr (cR t 40 v0)) hk dX5_notes_1 rfl (by decide) in_X5 q322 (fun _ h => h) rfl ?_
    refine gc_letr (fun x1 h_ => ?_)
    refine gc_rv (fun a2 h_ => ?_)
    subst h_
    refine gc_gd (fun hk => ?_)
    refine gc_getN hC (ci := 2) (j := 3) (v := .int (cI t 24 a2)) hk dX5_notes_4 rfl (by decide) in_X2 q136 (fun _ h => h) rfl ?_
    refine gc_letv (fun x3 h_ => ?_)
    refine gc_if_le hG (tgt := 46) dX5_notes_7 (by decide) ?_ ?_
    · refine gc_aload_n hG (v := .ref v0) (refV_a _) dX5_notes_10 rfl rfl ?_
      refine gc_gd (fun hk => ?_)
      refine gc_get hC (ci := 4) (j := 14) (v := vr (cR t 40 v0)) hk dX5_notes_11 rfl (by decide) in_X5 q322 (fun _ h => h) rfl ?_
      refine gc_letr (fun x4 h_ => ?_)
      refine gc_rv (fun a5 h_ => ?_)
      subst h_
      refine gc_gd (fun hk => ?_)
      refine gc_getN hC (ci := 2) (j := 1) (v := vr (cR t 22 a5)) hk dX5_notes_14 rfl (by decide) in_X2 q132 (fun _ h => h) rfl ?_
      refine gc_letr (fun x6 h_ => ?_)
      refine gc_rv (fun a7 h_ => ?_)
      subst h_
      refine gc_gd (fun hk => ?_)
      refine gc_getN hC (ci := 6) (j := 0) (v := vr (cR t 45 a7)) hk dX5_notes_17 rfl (by decide) in_X8 q407 (fun _ h => h) rfl ?_
      refine gc_letr (fun x8 h_ => ?_)
      refine gc_rv (fun a9 h_ => ?_)
      subst h_
      refine gc_gd (fun hk => ?_)
      refine gc_castE hC hk (ci := 16) rfl q480 dX5_notes_20 ?_
      refine gc_gd (fun hk => ?_)
      refine gc_callV (f := fJ5_intValue a9 t) (As := []) (rest := []) (n := 0) (d' := 1) (b := a9) hC hnL (wJ5_intValue (gLn X) Y hl hY a9 t) hk (ci := 16) rfl dX5_notes_23 q275 q276 q277 q89 q278 ⟨by decide +kernel, by decide +kernel⟩ rfl (by decide) (by decide) (Nat.le_of_ble_eq_true rfl) (kn_I (fun r10 s11 => ?_)) kx_I
      refine gc_iload_n hG dX5_notes_26 rfl rfl ?_
      refine gc_aload_n hG (v := .ref v0) (refV_a _) dX5_notes_27 rfl rfl ?_
      refine gc_gd (fun hk => ?_)
      refine gc_get hC (ci := 4) (j := 6) (v := .int (cI s11 32 v0)) hk dX5_notes_28 rfl (by decide) in_X5 q297 (fun _ h => h) rfl ?_
      refine gc_letv (fun x12 h_ => ?_)
      refine gc_isub hG dX5_notes_31 ?_
      refine gc_icmp_ge hG (tgt := 46) dX5_notes_32 (by decide) ?_ ?_
      · refine gc_aload_n hG (v := .ref v0) (refV_a _) dX5_notes_35 rfl rfl ?_
        refine gc_gd (fun hk => ?_)
        refine gc_get hC (ci := 4) (j := 14) (v := vr (cR s11 40 v0)) hk dX5_notes_36 rfl (by decide) in_X5 q322 (fun _ h => h) rfl ?_
        refine gc_letr (fun x13 h_ => ?_)
        refine gc_rv (fun a14 h_ => ?_)
        subst h_
        refine gc_gd (fun hk => ?_)
        refine gc_callV (f := fX2_takes a14 s11) (As := []) (rest := []) (n := 0) (d' := 1) (b := a14) hC hnL (wX2_takes (gLn X) Y hl hY a14 s11) hk (ci := 2) rfl dX5_notes_39 q988 q668 q669 q76 q670 ⟨by decide +kernel, by decide +kernel⟩ rfl (by decide) (by decide) (Nat.le_of_ble_eq_true rfl) (kn_R (fun r15 s16 => ?_)) kx_R
        refine gc_pop hG dX5_notes_42 (cat_vr _) ?_
        refine gc_goto hG (tgt := 0) dX5_notes_43 (by decide) ?_
        exact ih s16
      · exact hkx s11
    · exact hkx t
def fX5_notes (v0 : Nat) (v1 : Int32) (t : cS) : Option (Unit × cS) :=
  fX5_notes_L0 v0 v1 (fun  (t17 : cS) =>
    gd (cK t17 v0 = 5) (
    letv (cR t17 40 v0) (fun x18 =>
    ob (fJ5_valueOf v1 t17) (fun r19 s20 =>
    rv x18 (fun a21 =>
    gd (cK s20 a21 = 3) (
    ob (fX2_puts a21 r19 s20) (fun r22 s23 =>
    (some ((), s23))
    )
    )
    )
    )
    )
    )
    ) FU t
theorem mfX5_notes (v0 : Nat) (v1 : Int32) (t : cS) : MO t (fX5_notes v0 v1 t) := by
  unfold fX5_notes
  refine mfX5_notes_L0 _ _ _ (fun _ => ?_) _ _
  refine mo_gd ?_
  refine mo_letv (fun _ => ?_)
  refine mo_ob (by apply mfJ5_valueOf) (fun _ _ => ?_)
  refine mo_rv (fun _ => ?_)
  refine mo_gd ?_
  refine mo_ob (by apply mfX2_puts) (fun _ _ => ?_)
  exact mo_some
set_option maxHeartbeats 4000000 in
theorem wX5_notes (l : Launch) (Y : cY) (hl : l.stackTraces = false) (hY : ∀ q, q < Y.2.2.2.2.size → ¬ Y.2.2.2.1 q) (v0 : Nat) (v1 : Int32) (t : cS) : cFn l Y yX5_notes (ws_ yX5_notes cX5_notes 2 none) 4 [.ref v0, .int v1] t (fX5_notes v0 v1 t) rV := by
  refine cmet (av := [.ref v0, .int v1]) (mfX5_notes v0 v1 t) hl hY (by decide +kernel) (lg_le (List.forall_mem_cons.mpr ⟨rfl, List.forall_mem_cons.mpr ⟨rfl, fun _ h => absurd h List.not_mem_nil⟩⟩) (Nat.le_of_ble_eq_true rfl)) (lv_args_cat (List.forall_mem_cons.mpr ⟨rfl, List.forall_mem_cons.mpr ⟨rfl, fun _ h => absurd h List.not_mem_nil⟩⟩)) ?_
  intro X ad0 hln hC hnL hrt hnm hT hmd
  subst hln
  have hG := hC.1
  rw [lv_args_s (List.forall_mem_cons.mpr ⟨rfl, List.forall_mem_cons.mpr ⟨rfl, fun _ h => absurd h List.not_mem_nil⟩⟩)]
  show GC X Y (cM Y X 2 t ad0 rV) _ t 0 [(0, .ref v0), (1, .int v1)] []
  unfold fX5_notes
  refine gfX5_notes_L0 (s0 := t) (ad0 := ad0) hC hl hY hnL hrt hnm hT hmd v0 v1 _ (fun t17 => ?_) FU t
  refine gc_aload_n hG (v := .ref v0) (refV_a _) dX5_notes_46 rfl rfl ?_
  refine gc_gd (fun hk => ?_)
  refine gc_get hC (ci := 4) (j := 14) (v := vr (cR t17 40 v0)) hk dX5_notes_47 rfl (by decide) in_X5 q322 (fun _ h => h) rfl ?_
  refine gc_letr (fun x18 h_ => ?_)
  refine gc_iload_n hG dX5_notes_50 rfl rfl ?_
  refine gc_callS (f := fJ5_valueOf v1 t17) (As := [.int v1]) (rest := [vr x18]) (n := 1) (d' := 3) hC hnL (wJ5_valueOf (gLn X) Y hl hY v1 t17) dX5_notes_51 q989 q937 q89 q938 ⟨by decide +kernel, by decide +kernel⟩ rfl (by decide) (by decide) (by simp [cat_vr, cat_r, cat_i, cat_n]) (kn_R (fun r19 s20 => ?_)) kx_R
  refine gc_rv (fun a21 h_ => ?_)
  subst h_
  refine gc_gd (fun hk => ?_)
  refine gc_callV (f := fX2_puts a21 r19 s20) (As := [vr r19]) (rest := []) (n := 1) (d' := 2) (b := a21) hC hnL (wX2_puts (gLn X) Y hl hY a21 r19 s20) hk (ci := 2) rfl dX5_notes_54 q787 q395 q396 q76 q397 ⟨by decide +kernel, by decide +kernel⟩ rfl (by decide) (by decide) (Nat.le_of_ble_eq_true rfl) (kn_I (fun r22 s23 => ?_)) kx_I
  refine gc_pop hG dX5_notes_57 rfl ?_
  exact gc_vret hC hrt rfl dX5_notes_58
def fX1_handles_L74 (v0 : Nat) (v2 : Nat) (v3 : Nat) (kx : cS → Option ((Unit ⊕ Nat) × cS)) : Nat → Int32 → cS → Option ((Unit ⊕ Nat) × cS)
  | 0, _, _ => none
  | k + 1, v4, t =>
    gd (cK t v0 = 2) (
    letv (cI t 7 v0) (fun x26 =>
    if v4 < x26 then
      gd (cK t v0 = 2) (
      letv (cR t 6 v0) (fun x27 =>
      rv x27 (fun a28 =>
      gd (cK t a28 = 23 ∧ cIn t a28 v4) (
      letv (cR t (er (v4).toNatClampNeg) a28) (fun x29 =>
      rv x29 (fun a30 =>
      gd (cK t a30 = 5) (
      letv (cI t 27 a30) (fun x31 =>
      gd (cK t v3 = 5) (
      letv (cI t 26 v3) (fun x32 =>
      jn (fun  (t33 : cS) =>
        letv (v4 + (nI 1)) (fun y35 =>
        fX1_handles_L74 v0 v2 v3 kx k y35 t33
        )
        ) (fun (j34 : cS → Option ((Unit ⊕ Nat) × cS)) =>
        if x31 = x32 then
          gd (cK t v0 = 2) (
          letv (cR t 6 v0) (fun x36 =>
          rv x36 (fun a37 =>
          gd (cK t a37 = 23 ∧ cIn t a37 v4) (
          letv (cR t (er (v4).toNatClampNeg) a37) (fun x38 =>
          rv x38 (fun a39 =>
          gd (cK t a39 = 5) (
          letv (cI t 33 a39) (fun x40 =>
          if x40 = 0 then
            j34 t
          else
            gd (cK t v3 = 5) (
            letv (cR t 30 v3) (fun x41 =>
            gd (cK t v2 = 5) (
            letv (cI t 26 v2) (fun x42 =>
            rv x41 (fun a43 =>
            ob (fD_restarts a43 x42 v4 t) (fun r44 s45 =>
            if r44 = 0 then
              j34 s45
            else
              gd (cK s45 v0 = 2) (
              letv (cR s45 6 v0) (fun x46 =>
              rv x46 (fun a47 =>
              gd (cK s45 a47 = 23 ∧ cIn s45 a47 v4) (
              letv (cR s45 (er (v4).toNatClampNeg) a47) (fun x48 =>
              gd (cK s45 v0 = 2) (
              ob (fX1_restarts v0 x48 s45) (fun r49 s50 =>
              j34 s50
              )
              )
              )
              )
              )
              )
              )
            )
            )
            )
            )
            )
            )
          )
          )
          )
          )
          )
          )
          )
          )
        else
          j34 t
        )
      )
      )
      )
      )
      )
      )
      )
      )
      )
      )
    else
      kx t
    )
    )
theorem mfX1_handles_L74 (v0 : Nat) (v2 : Nat) (v3 : Nat) (kx : cS → Option ((Unit ⊕ Nat) × cS)) (hkx : ∀  (t : cS), MO t (kx t)) : ∀ (k : Nat) (v4 : Int32) (t : cS), MO t (fX1_handles_L74 v0 v2 v3 kx k v4 t) := by
  intro k
  induction k with
  | zero => intro v4 t; exact mo_none
  | succ k ih =>
    intro v4 t
    rw [fX1_handles_L74]
    refine mo_gd ?_
    refine mo_letv (fun _ => ?_)
    refine mo_ite ?_ ?_
    · refine mo_gd ?_
      refine mo_letv (fun _ => ?_)
      refine mo_rv (fun _ => ?_)
      refine mo_gd ?_
      refine mo_letv (fun _ => ?_)
      refine mo_rv (fun _ => ?_)
      refine mo_gd ?_
      refine mo_letv (fun _ => ?_)
      refine mo_gd ?_
      refine mo_letv (fun _ => ?_)
      refine mo_jn (fun j_ => ∀ ( t33 : cS ), MO t33 (j_ t33)) (fun t33 => ?_) (fun j34 hj34 => ?_)
      · refine mo_letv (fun _ => ?_)
        exact ih _ _
      · refine mo_ite ?_ ?_
        · refine mo_gd ?_
          refine mo_letv (fun _ => ?_)
          refine mo_rv (fun _ => ?_)
          refine mo_gd ?_
          refine mo_letv (fun _ => ?_)
          refine mo_rv (fun _ => ?_)
          refine mo_gd ?_
          refine mo_letv (fun _ => ?_)
          refine mo_ite ?_ ?_
          · exact hj34 _
          · refine mo_gd ?_
            refine mo_letv (fun _ => ?_)
            refine mo_gd ?_
            refine mo_letv (fun _ => ?_)
            refine mo_rv (fun _ => ?_)
            refine mo_ob (by apply mfD_restarts) (fun _ _ => ?_)
            refine mo_ite ?_ ?_
            · exact hj34 _
            · refine mo_gd ?_
              refine mo_letv (fun _ => ?_)
              refine mo_rv (fun _ => ?_)
              refine mo_gd ?_
              refine mo_letv (fun _ => ?_)
              refine mo_gd ?_
              refine mo_ob (by apply mfX1_restarts) (fun _ _ => ?_)
              exact hj34 _
        · exact hj34 _
    · exact hkx _
set_option maxHeartbeats 4000000 in
theorem gfX1_handles_L74 {X : gCx} {Y : cY} {s0 : cS} {ad0 : Nat → Nat} (hC : cOk X Y RX1 cX1_handles 34) (hl : (gLn X).stackTraces = false) (hY : ∀ q, q < Y.2.2.2.2.size → ¬ Y.2.2.2.1 q) (hnL : gLoc X = 5) (hrt : gRet X = none) (hnm : X.2.2.2.2.2.2.2.2.1.name = "handles") (hT : gTab X = []) (hmd : (gSt X).methodNamed? yX1_handles = some (gMe X)) (v0 : Nat) (v2 : Nat) (v3 : Nat) (kx : cS → Option ((Unit ⊕ Nat) × cS)) (hkx : ∀  (t : cS), GC X Y (cM Y X 5 s0 ad0 rVx) (kx t) t 148 [] []) : ∀ (k : Nat) (v4 : Int32) (t : cS), GC X Y (cM Y X 5 s0 ad0 rVx) (fX1_handles_L74 v0 v2 v3 kx k v4 t) t 74 [(0, .ref v0), (2, .ref v2), (3, .ref v3), (4, .int v4)] [] := by
  have hG := hC.1
  intro k
  induction k with
  | zero => intro v4 t; exact gc_none
  | succ k ih =>
    intro v4 t
    rw [fX1_handles_L74]
    refine gc_iload hG dX1_handles_74 rfl ?_
    refine gc_aload_n hG (v := .ref v0) (refV_a _) dX1_handles_76 rfl rfl ?_
    refine gc_gd (fun hk => ?_)
    refine gc_get hC (ci := 1) (j := 1) (v := .int (cI t 7 v0)) hk dX1_handles_77 rfl (by decide) in_X1 q162 (fun _ h => h) rfl ?_
    refine gc_letv (fun x26 h_ => ?_)
    refine gc_icmp_ge hG (tgt := 148) dX1_handles_80 (by decide) ?_ ?_
    · refine gc_aload_n hG (v := .ref v0) (refV_a _) dX1_handles_83 rfl rfl ?_
      refine gc_gd (fun hk => ?_)
      refine gc_get hC (ci := 1) (j := 0) (v := vr (cR t 6 v0)) hk dX1_handles_84 rfl (by decide) in_X1 q158 (fun _ h => h) rfl ?_
      refine gc_letr (fun x27 h_ => ?_)
      refine gc_iload hG dX1_handles_87 rfl ?_
      refine gc_rv (fun a28 h_ => ?_)
      subst h_
      refine gc_gd (fun hk => ?_)
      refine gc_aald hC hk.1 (by decide) (by decide) (t0 := 3) rfl hk.2 dX1_handles_89 ?_
      refine gc_letr (fun x29 h_ => ?_)
      refine gc_rv (fun a30 h_ => ?_)
      subst h_
      refine gc_gd (fun hk => ?_)
      refine gc_getN hC (ci := 4) (j := 1) (v := .int (cI t 27 a30)) hk dX1_handles_90 rfl (by decide) in_X5 q287 (fun _ h => h) rfl ?_
      refine gc_letv (fun x31 h_ => ?_)
      refine gc_aload_n hG (v := .ref v3) (refV_a _) dX1_handles_93 rfl rfl ?_
      refine gc_gd (fun hk => ?_)
      refine gc_getN hC (ci := 4) (j := 0) (v := .int (cI t 26 v3)) hk dX1_handles_94 rfl (by decide) in_X5 q283 (fun _ h => h) rfl ?_
      refine gc_letv (fun x32 h_ => ?_)
      refine gc_jn (fun j_ => ∀  (t33 : cS), GC X Y (cM Y X 5 s0 ad0 rVx) (j_ t33) t33 142 [(0, .ref v0), (2, .ref v2), (3, .ref v3), (4, .int v4)] []) (fun t33 => ?_) (fun j34 hj34 => ?_)
      · refine gc_letiinc hG (c := (nI 1)) (lv' := fun y35 => [(0, .ref v0), (2, .ref v2), (3, .ref v3), (4, .int y35)]) dX1_handles_142 rfl (by decide) (Nat.le_of_ble_eq_true rfl) (fun _ => rfl) (fun y35 => ?_)
        refine gc_goto hG (tgt := 74) dX1_handles_145 (by decide) ?_
        exact ih y35 t33
      · refine gc_icmp_ne hG (tgt := 142) dX1_handles_97 (by decide) ?_ ?_
        · refine gc_aload_n hG (v := .ref v0) (refV_a _) dX1_handles_100 rfl rfl ?_
          refine gc_gd (fun hk => ?_)
          refine gc_get hC (ci := 1) (j := 0) (v := vr (cR t 6 v0)) hk dX1_handles_101 rfl (by decide) in_X1 q158 (fun _ h => h) rfl ?_
          refine gc_letr (fun x36 h_ => ?_)
          refine gc_iload hG dX1_handles_104 rfl ?_
          refine gc_rv (fun a37 h_ => ?_)
          subst h_
          refine gc_gd (fun hk => ?_)
          refine gc_aald hC hk.1 (by decide) (by decide) (t0 := 3) rfl hk.2 dX1_handles_106 ?_
          refine gc_letr (fun x38 h_ => ?_)
          refine gc_rv (fun a39 h_ => ?_)
          subst h_
          refine gc_gd (fun hk => ?_)
          refine gc_getN hC (ci := 4) (j := 7) (v := .int (cI t 33 a39)) hk dX1_handles_107 rfl (by decide) in_X5 q300 (fun _ h => h) rfl ?_
          refine gc_letv (fun x40 h_ => ?_)
          refine gc_if_eq hG (tgt := 142) dX1_handles_110 (by decide) ?_ ?_
          · exact hj34 t
          · refine gc_aload_n hG (v := .ref v3) (refV_a _) dX1_handles_113 rfl rfl ?_
            refine gc_gd (fun hk => ?_)
            refine gc_getN hC (ci := 4) (j := 4) (v := vr (cR t 30 v3)) hk dX1_handles_114 rfl (by decide) in_X5 q293 (fun _ h => h) rfl ?_
            refine gc_letr (fun x41 h_ => ?_)
            refine gc_aload_n hG (v := .ref v2) (refV_a _) dX1_handles_117 rfl rfl ?_
            refine gc_gd (fun hk => ?_)
            refine gc_getN hC (ci := 4) (j := 0) (v := .int (cI t 26 v2)) hk dX1_handles_118 rfl (by decide) in_X5 q283 (fun _ h => h) rfl ?_
            refine gc_letv (fun x42 h_ => ?_)
            refine gc_iload hG dX1_handles_121 rfl ?_
            refine gc_rv (fun a43 h_ => ?_)
            subst h_
            refine gD_restarts (rest := []) hC hnL hl hY dX1_handles_123 q992 (by decide) (Nat.le_of_ble_eq_true rfl) (kn_I (fun r44 s45 => ?_)) kx_I
            refine gc_if_eq hG (tgt := 142) dX1_handles_128 (by decide) ?_ ?_
            · exact hj34 s45
            · refine gc_aload_n hG (v := .ref v0) (refV_a _) dX1_handles_131 rfl rfl ?_
              refine gc_aload_n hG (v := .ref v0) (refV_a _) dX1_handles_132 rfl rfl ?_
              refine gc_gd (fun hk => ?_)
              refine gc_get hC (ci := 1) (j := 0) (v := vr (cR s45 6 v0)) hk dX1_handles_133 rfl (by decide) in_X1 q158 (fun _ h => h) rfl ?_
              refine gc_letr (fun x46 h_ => ?_)
              refine gc_iload hG dX1_handles_136 rfl ?_
              refine gc_rv (fun a47 h_ => ?_)
              subst h_
              refine gc_gd (fun hk => ?_)
              refine gc_aald hC hk.1 (by decide) (by decide) (t0 := 3) rfl hk.2 dX1_handles_138 ?_
              refine gc_letr (fun x48 h_ => ?_)
              refine gc_gd (fun hk => ?_)
              refine gc_callV (f := fX1_restarts v0 x48 s45) (As := [vr x48]) (rest := []) (n := 1) (d' := 33) (b := v0) hC hnL (wX1_restarts (gLn X) Y hl hY v0 x48 s45) hk (ci := 1) rfl dX1_handles_139 q995 q996 q997 q75 q998 ⟨by decide +kernel, by decide +kernel⟩ rfl (by decide) (by decide) (Nat.le_of_ble_eq_true rfl) (kn_V (fun r49 s50 => ?_)) kx_V
              exact hj34 s50
        · exact hj34 t
    · refine gc_sub [] rfl ?_
      exact hkx t
def fX1_handles (v0 : Nat) (v1 : Option Nat) (t : cS) : Option ((Unit ⊕ Nat) × cS) :=
  gd (cK t v0 = 2) (
  letv (cR t 6 v0) (fun x1 =>
  rv v1 (fun a2 =>
  gd (cK t a2 = 10) (
  letv (cI t 57 a2) (fun x3 =>
  rv x1 (fun a4 =>
  gd (cK t a4 = 23 ∧ cIn t a4 x3) (
  letv (cR t (er (x3).toNatClampNeg) a4) (fun x5 =>
  rv x5 (fun a6 =>
  gd (cK t a6 = 5) (
  letv (cI t 27 a6) (fun x7 =>
  if x7 < 0 then
    gd (cK t v0 = 2) (
    ob (fX1_stops 13 v0 (some a6) t) (fun r8 s9 =>
    (some ((.inl ()), s9))
    )
    )
  else
    gd (cK t v0 = 2) (
    letv (cR t 6 v0) (fun x10 =>
    gd (cK t a6 = 5) (
    letv (cI t 27 a6) (fun x11 =>
    rv x10 (fun a12 =>
    gd (cK t a12 = 23 ∧ cIn t a12 x11) (
    letv (cR t (er (x11).toNatClampNeg) a12) (fun x13 =>
    gd (cK t v0 = 2) (
    letv (cI t 10 v0) (fun x14 =>
    rv x13 (fun a15 =>
    gd (cK t a15 = 5) (
    ob (fX5_notes a15 x14 t) (fun r16 s17 =>
    gd (cK s17 v0 = 2) (
    letv (cI s17 10 v0) (fun x18 =>
    gd (cK s17 a15 = 5) (
    ob (fX5_failures a15 x18 s17) (fun r19 s20 =>
    gd (cK s20 a15 = 5) (
    letv (cI s20 31 a15) (fun x21 =>
    if x21 < r19 then
      letv (sN s20 10 0 8) (fun s22 =>
      gd (cK s22 a15 = 5) (
      letv (cI s22 26 a15) (fun x23 =>
      ob (fX11_init_2 (cn s20) x23 (nI 9) (some a2) s22) (fun r24 s25 =>
      gd (cK s25 (cn s20) = 10) (
      some (.inr (cn s20), s25)
      )
      )
      )
      )
      )
    else
      fX1_handles_L74 v0 a6 a15 (fun  (t51 : cS) =>
        (some ((.inl ()), t51))
        ) FU (nI 0) s20
    )
    )
    )
    )
    )
    )
    )
    )
    )
    )
    )
    )
    )
    )
    )
    )
    )
    )
  )
  )
  )
  )
  )
  )
  )
  )
  )
  )
  )
theorem mfX1_handles (v0 : Nat) (v1 : Option Nat) (t : cS) : MO t (fX1_handles v0 v1 t) := by
  unfold fX1_handles
  refine mo_gd ?_
  refine mo_letv (fun _ => ?_)
  refine mo_rv (fun _ => ?_)
  refine mo_gd ?_
  refine mo_letv (fun _ => ?_)
  refine mo_rv (fun _ => ?_)
  refine mo_gd ?_
  refine mo_letv (fun _ => ?_)
  refine mo_rv (fun _ => ?_)
  refine mo_gd ?_
  refine mo_letv (fun _ => ?_)
  refine mo_ite ?_ ?_
  · refine mo_gd ?_
    refine mo_ob (by apply mfX1_stops) (fun _ _ => ?_)
    exact mo_some
  · refine mo_gd ?_
    refine mo_letv (fun _ => ?_)
    refine mo_gd ?_
    refine mo_letv (fun _ => ?_)
    refine mo_rv (fun _ => ?_)
    refine mo_gd ?_
    refine mo_letv (fun _ => ?_)
    refine mo_gd ?_
    refine mo_letv (fun _ => ?_)
    refine mo_rv (fun _ => ?_)
    refine mo_gd ?_
    refine mo_ob (by apply mfX5_notes) (fun _ _ => ?_)
    refine mo_gd ?_
    refine mo_letv (fun _ => ?_)
    refine mo_gd ?_
    refine mo_ob (by apply mfX5_failures) (fun _ _ => ?_)
    refine mo_gd ?_
    refine mo_letv (fun _ => ?_)
    refine mo_ite ?_ ?_
    · refine mo_letS cMo_sN (fun _ => ?_)
      refine mo_gd ?_
      refine mo_letv (fun _ => ?_)
      refine mo_ob (by apply mfX11_init_2) (fun _ _ => ?_)
      refine mo_gd ?_
      exact mo_some
    · refine mfX1_handles_L74 _ _ _ _ (fun _ => ?_) _ _ _
      exact mo_some
set_option maxHeartbeats 4000000 in
theorem wX1_handles (l : Launch) (Y : cY) (hl : l.stackTraces = false) (hY : ∀ q, q < Y.2.2.2.2.size → ¬ Y.2.2.2.1 q) (v0 : Nat) (v1 : Option Nat) (t : cS) : cFn l Y yX1_handles (ws_ yX1_handles cX1_handles 5 none) 34 [.ref v0, vr v1] t (fX1_handles v0 v1 t) rVx := by
  refine cmet (av := [.ref v0, vr v1]) (mfX1_handles v0 v1 t) hl hY (by decide +kernel) (lg_le (List.forall_mem_cons.mpr ⟨rfl, List.forall_mem_cons.mpr ⟨(cat_vr _), fun _ h => absurd h List.not_mem_nil⟩⟩) (Nat.le_of_ble_eq_true rfl)) (lv_args_cat (List.forall_mem_cons.mpr ⟨rfl, List.forall_mem_cons.mpr ⟨(cat_vr _), fun _ h => absurd h List.not_mem_nil⟩⟩)) ?_
  intro X ad0 hln hC hnL hrt hnm hT hmd
  subst hln
  have hG := hC.1
  rw [lv_args_s (List.forall_mem_cons.mpr ⟨rfl, List.forall_mem_cons.mpr ⟨(cat_vr _), fun _ h => absurd h List.not_mem_nil⟩⟩)]
  show GC X Y (cM Y X 5 t ad0 rVx) _ t 0 [(0, .ref v0), (1, vr v1)] []
  unfold fX1_handles
  refine gc_aload_n hG (v := .ref v0) (refV_a _) dX1_handles_0 rfl rfl ?_
  refine gc_gd (fun hk => ?_)
  refine gc_get hC (ci := 1) (j := 0) (v := vr (cR t 6 v0)) hk dX1_handles_1 rfl (by decide) in_X1 q158 (fun _ h => h) rfl ?_
  refine gc_letr (fun x1 h_ => ?_)
  refine gc_aload_n hG (v := vr v1) (refV_x _) dX1_handles_4 rfl rfl ?_
  refine gc_rv (fun a2 h_ => ?_)
  subst h_
  refine gc_gd (fun hk => ?_)
  refine gc_getN hC (ci := 9) (j := 6) (v := .int (cI t 57 a2)) hk dX1_handles_5 rfl (by decide) in_X11 q750 (fun _ h => h) rfl ?_
  refine gc_letv (fun x3 h_ => ?_)
  refine gc_rv (fun a4 h_ => ?_)
  subst h_
  refine gc_gd (fun hk => ?_)
  refine gc_aald hC hk.1 (by decide) (by decide) (t0 := 3) rfl hk.2 dX1_handles_8 ?_
  refine gc_letr (fun x5 h_ => ?_)
  refine gc_astore_n hG (refV_x _) dX1_handles_9 rfl (Nat.le_of_ble_eq_true rfl) (lv' := [(0, _), (1, _), (2, _)]) rfl ?_
  refine gc_aload_n hG (v := vr x5) (refV_x _) dX1_handles_10 rfl rfl ?_
  refine gc_rv (fun a6 h_ => ?_)
  subst h_
  refine gc_gd (fun hk => ?_)
  refine gc_getN hC (ci := 4) (j := 1) (v := .int (cI t 27 a6)) hk dX1_handles_11 rfl (by decide) in_X5 q287 (fun _ h => h) rfl ?_
  refine gc_letv (fun x7 h_ => ?_)
  refine gc_if_ge hG (tgt := 23) dX1_handles_14 (by decide) ?_ ?_
  · refine gc_aload_n hG (v := .ref v0) (refV_a _) dX1_handles_17 rfl rfl ?_
    refine gc_aload_n hG (v := .ref a6) (refV_a _) dX1_handles_18 rfl rfl ?_
    refine gc_gd (fun hk => ?_)
    refine gc_callV (f := fX1_stops 13 v0 (some a6) t) (As := [.ref a6]) (rest := []) (n := 1) (d' := (5 + 2 * 13)) (b := v0) hC hnL (wX1_stops 13 (gLn X) Y hl hY v0 (some a6) t) hk (ci := 1) rfl dX1_handles_19 q644 q637 q638 q75 q639 ⟨by decide +kernel, by decide +kernel⟩ rfl (by decide) (by decide) (Nat.le_of_ble_eq_true rfl) (kn_V (fun r8 s9 => ?_)) kx_V
    exact gc_vret hC hrt rfl dX1_handles_22
  · refine gc_aload_n hG (v := .ref v0) (refV_a _) dX1_handles_23 rfl rfl ?_
    refine gc_gd (fun hk => ?_)
    refine gc_get hC (ci := 1) (j := 0) (v := vr (cR t 6 v0)) hk dX1_handles_24 rfl (by decide) in_X1 q158 (fun _ h => h) rfl ?_
    refine gc_letr (fun x10 h_ => ?_)
    refine gc_aload_n hG (v := .ref a6) (refV_a _) dX1_handles_27 rfl rfl ?_
    refine gc_gd (fun hk => ?_)
    refine gc_getN hC (ci := 4) (j := 1) (v := .int (cI t 27 a6)) hk dX1_handles_28 rfl (by decide) in_X5 q287 (fun _ h => h) rfl ?_
    refine gc_letv (fun x11 h_ => ?_)
    refine gc_rv (fun a12 h_ => ?_)
    subst h_
    refine gc_gd (fun hk => ?_)
    refine gc_aald hC hk.1 (by decide) (by decide) (t0 := 3) rfl hk.2 dX1_handles_31 ?_
    refine gc_letr (fun x13 h_ => ?_)
    refine gc_astore_n hG (refV_x _) dX1_handles_32 rfl (Nat.le_of_ble_eq_true rfl) (lv' := [(0, _), (1, _), (2, _), (3, _)]) rfl ?_
    refine gc_aload_n hG (v := vr x13) (refV_x _) dX1_handles_33 rfl rfl ?_
    refine gc_aload_n hG (v := .ref v0) (refV_a _) dX1_handles_34 rfl rfl ?_
    refine gc_gd (fun hk => ?_)
    refine gc_get hC (ci := 1) (j := 4) (v := .int (cI t 10 v0)) hk dX1_handles_35 rfl (by decide) in_X1 q169 (fun _ h => h) rfl ?_
    refine gc_letv (fun x14 h_ => ?_)
    refine gc_rv (fun a15 h_ => ?_)
    subst h_
    refine gc_gd (fun hk => ?_)
    refine gc_callV (f := fX5_notes a15 x14 t) (As := [.int x14]) (rest := []) (n := 1) (d' := 4) (b := a15) hC hnL (wX5_notes (gLn X) Y hl hY a15 x14 t) hk (ci := 4) rfl dX1_handles_38 q984 q985 q986 q79 q987 ⟨by decide +kernel, by decide +kernel⟩ rfl (by decide) (by decide) (Nat.le_of_ble_eq_true rfl) (kn_V (fun r16 s17 => ?_)) kx_V
    refine gc_aload_n hG (v := .ref a15) (refV_a _) dX1_handles_41 rfl rfl ?_
    refine gc_aload_n hG (v := .ref v0) (refV_a _) dX1_handles_42 rfl rfl ?_
    refine gc_gd (fun hk => ?_)
    refine gc_get hC (ci := 1) (j := 4) (v := .int (cI s17 10 v0)) hk dX1_handles_43 rfl (by decide) in_X1 q169 (fun _ h => h) rfl ?_
    refine gc_letv (fun x18 h_ => ?_)
    refine gc_gd (fun hk => ?_)
    refine gc_callV (f := fX5_failures a15 x18 s17) (As := [.int x18]) (rest := []) (n := 1) (d' := 3) (b := a15) hC hnL (wX5_failures (gLn X) Y hl hY a15 x18 s17) hk (ci := 4) rfl dX1_handles_46 q990 q472 q473 q79 q474 ⟨by decide +kernel, by decide +kernel⟩ rfl (by decide) (by decide) (Nat.le_of_ble_eq_true rfl) (kn_I (fun r19 s20 => ?_)) kx_I
    refine gc_aload_n hG (v := .ref a15) (refV_a _) dX1_handles_49 rfl rfl ?_
    refine gc_gd (fun hk => ?_)
    refine gc_getN hC (ci := 4) (j := 5) (v := .int (cI s20 31 a15)) hk dX1_handles_50 rfl (by decide) in_X5 q296 (fun _ h => h) rfl ?_
    refine gc_letv (fun x21 h_ => ?_)
    refine gc_icmp_le hG (tgt := 71) dX1_handles_53 (by decide) ?_ ?_
    · refine gc_new hC (ci := 9) tyX11 tyX11_ok rfl in_X11 dX1_handles_56 q719 q728 q91 (by decide +kernel) ?_
      refine gc_letS (fun s22 => ?_)
      refine gc_dup hG dX1_handles_59 rfl ?_
      refine gc_aload_n hG (v := .ref a15) (refV_a _) dX1_handles_60 rfl rfl ?_
      refine gc_gd (fun hk => ?_)
      refine gc_getN hC (ci := 4) (j := 0) (v := .int (cI s22 26 a15)) hk dX1_handles_61 rfl (by decide) in_X5 q283 (fun _ h => h) rfl ?_
      refine gc_letv (fun x23 h_ => ?_)
      refine gc_bipush hG (nI 9) dX1_handles_64 (by decide) ?_
      refine gc_aload_n hG (v := .ref a2) (refV_a _) dX1_handles_66 rfl rfl ?_
      refine gc_callI (f := fX11_init_2 (cn s20) x23 (nI 9) (some a2) s22) (As := [.int x23, .int (nI 9), .ref a2]) (rest := [.ref (cn s20)]) (n := 3) (d' := 3) (b := (cn s20)) hC hnL (wX11_init_2 (gLn X) Y hl hY (cn s20) x23 (nI 9) (some a2) s22) dX1_handles_67 q975 q740 q91 q741 ⟨by decide +kernel, by decide +kernel⟩ rfl rfl (by decide) (by decide) (Nat.le_of_ble_eq_true rfl) (kn_V (fun r24 s25 => ?_)) kx_V
      refine gc_athrow hG dX1_handles_70 ?_
      refine gx_gd (fun hk => ?_)
      exact gx_outR hC hk (ci := 9) rfl rfl (by rw [hT]; intro z hz; cases hz)
    · refine gc_iconst hG (nI 0) dX1_handles_71 (by decide) ?_
      refine gc_istore hG dX1_handles_72 (Nat.le_of_ble_eq_true rfl) (lv' := [(0, _), (1, _), (2, _), (3, _), (4, _)]) rfl ?_
      refine gc_sub [0, 2, 3, 4] rfl ?_
      refine gfX1_handles_L74 (s0 := t) (ad0 := ad0) hC hl hY hnL hrt hnm hT hmd v0 a6 a15 _ (fun t51 => ?_) FU (nI 0) s20
      exact gc_vret hC hrt rfl dX1_handles_148
def fX1_fails_L14 (v0 : Nat) (kx : Option Nat → cS → Option (Unit × cS)) : Nat → Option Nat → Int32 → cS → Option (Unit × cS)
  | 0, _, _, _ => none
  | k + 1, v2, v3, t =>
    if v3 = 0 then
      kx v2 t
    else
      gd (cK t v0 = 2) (
      obx (fX1_handles v0 v2 t) (fun r3 s4 =>
        fX1_fails_L14 v0 kx k v2 (nI 0) s4
      ) (fun e5 s6 =>
        gd (cK s6 e5 = 10) (
        fX1_fails_L14 v0 kx k (some e5) v3 s6
        )
      )
      )
theorem mfX1_fails_L14 (v0 : Nat) (kx : Option Nat → cS → Option (Unit × cS)) (hkx : ∀ (v2 : Option Nat) (t : cS), MO t (kx v2 t)) : ∀ (k : Nat) (v2 : Option Nat) (v3 : Int32) (t : cS), MO t (fX1_fails_L14 v0 kx k v2 v3 t) := by
  intro k
  induction k with
  | zero => intro v2 v3 t; exact mo_none
  | succ k ih =>
    intro v2 v3 t
    rw [fX1_fails_L14]
    refine mo_ite ?_ ?_
    · exact hkx _ _
    · refine mo_gd ?_
      refine mo_obx (by apply mfX1_handles) (fun _ _ => ?_) (fun _ _ => ?_)
      · exact ih _ _ _
      · refine mo_gd ?_
        exact ih _ _ _
set_option maxHeartbeats 4000000 in
theorem gfX1_fails_L14 {X : gCx} {Y : cY} {s0 : cS} {ad0 : Nat → Nat} (hC : cOk X Y RX1 cX1_fails 35) (hl : (gLn X).stackTraces = false) (hY : ∀ q, q < Y.2.2.2.2.size → ¬ Y.2.2.2.1 q) (hnL : gLoc X = 5) (hrt : gRet X = none) (hnm : X.2.2.2.2.2.2.2.2.1.name = "fails") (hT : gTab X = tableOf [(18, 25, 28, 194)]) (hmd : (gSt X).methodNamed? yX1_fails = some (gMe X)) (v0 : Nat) (kx : Option Nat → cS → Option (Unit × cS)) (hkx : ∀ (v2 : Option Nat) (t : cS), GC X Y (cM Y X 5 s0 ad0 rV) (kx v2 t) t 36 [(0, .ref v0), (2, vr v2)] []) : ∀ (k : Nat) (v2 : Option Nat) (v3 : Int32) (t : cS), GC X Y (cM Y X 5 s0 ad0 rV) (fX1_fails_L14 v0 kx k v2 v3 t) t 14 [(0, .ref v0), (2, vr v2), (3, .int v3)] [] := by
  have hG := hC.1
  intro k
  induction k with
  | zero => intro v2 v3 t; exact gc_none
  | succ k ih =>
    intro v2 v3 t
    rw [fX1_fails_L14]
    refine gc_iload_n hG dX1_fails_14 rfl rfl ?_
    refine gc_if_eq hG (tgt := 36) dX1_fails_15 (by decide) ?_ ?_
    · refine gc_sub [0, 1] rfl ?_
      exact hkx v2 t
    · refine gc_aload_n hG (v := .ref v0) (refV_a _) dX1_fails_18 rfl rfl ?_
      refine gc_aload_n hG (v := vr v2) (refV_x _) dX1_fails_19 rfl rfl ?_
      refine gc_gd (fun hk => ?_)
      refine gc_callV (f := fX1_handles v0 v2 t) (As := [vr v2]) (rest := []) (n := 1) (d' := 34) (b := v0) hC hnL (wX1_handles (gLn X) Y hl hY v0 v2 t) hk (ci := 1) rfl dX1_fails_20 q980 q982 qs19 q75 q983 ⟨by decide +kernel, by decide +kernel⟩ rfl (by decide) (by decide) (Nat.le_of_ble_eq_true rfl) (kn_Vx (fun r3 s4 => ?_)) (kx_Vx (fun e5 s6 => ?_))
      · refine gc_iconst hG (nI 0) dX1_fails_23 (by decide) ?_
        refine gc_istore_n hG dX1_fails_24 rfl (Nat.le_of_ble_eq_true rfl) (lv' := [(0, _), (2, _), (3, _)]) rfl ?_
        refine gc_goto hG (tgt := 14) dX1_fails_25 (by decide) ?_
        exact ih v2 (nI 0) s4
      · refine gx_gd (fun hk => ?_)
        refine gx_catchR hC hk (ci := 9) rfl [] ((tableOf [(18, 25, 28, 194)])[0]) [] (by rw [hT]; rfl) (fun _ h => absurd h List.not_mem_nil) rfl (by decide) q719 q729 rfl ?_
        refine gc_astore hG (refV_a _) dX1_fails_28 (Nat.le_of_ble_eq_true rfl) (lv' := [(0, _), (2, _), (3, _), (4, _)]) rfl ?_
        refine gc_aload hG (v := .ref e5) (refV_a _) dX1_fails_30 rfl ?_
        refine gc_astore_n hG (refV_a _) dX1_fails_32 rfl (Nat.le_of_ble_eq_true rfl) (lv' := [(0, _), (2, _), (3, _), (4, _)]) rfl ?_
        refine gc_goto hG (tgt := 14) dX1_fails_33 (by decide) ?_
        refine gc_sub [0, 1, 2] rfl ?_
        exact ih (some e5) v3 s6
def fX1_fails (v0 : Nat) (v1 : Option Nat) (t : cS) : Option (Unit × cS) :=
  gd (cK t v0 = 2) (
  letv (cI t 17 v0) (fun x1 =>
  gd (cK t v0 = 2) (
  letv (sI t 17 v0 (x1 + (nI 1))) (fun s2 =>
  fX1_fails_L14 v0 (fun (v2_7 : Option Nat) (t8 : cS) =>
    gd (cK t8 v0 = 2) (
    letv (sR t8 16 v0 v2_7) (fun s9 =>
    (some ((), s9))
    )
    )
    ) FU v1 (nI 1) s2
  )
  )
  )
  )
theorem mfX1_fails (v0 : Nat) (v1 : Option Nat) (t : cS) : MO t (fX1_fails v0 v1 t) := by
  unfold fX1_fails
  refine mo_gd ?_
  refine mo_letv (fun _ => ?_)
  refine mo_gd ?_
  refine mo_letS cMo_sI (fun _ => ?_)
  refine mfX1_fails_L14 _ _ (fun _ _ => ?_) _ _ _ _
  refine mo_gd ?_
  refine mo_letS cMo_sR (fun _ => ?_)
  exact mo_some
set_option maxHeartbeats 4000000 in
theorem wX1_fails (l : Launch) (Y : cY) (hl : l.stackTraces = false) (hY : ∀ q, q < Y.2.2.2.2.size → ¬ Y.2.2.2.1 q) (v0 : Nat) (v1 : Option Nat) (t : cS) : cFn l Y yX1_fails (wsW_ yX1_fails cX1_fails 5 none [(18, 25, 28, 194)]) 35 [.ref v0, vr v1] t (fX1_fails v0 v1 t) rV := by
  refine cmetW (av := [.ref v0, vr v1]) (mfX1_fails v0 v1 t) hl hY (by decide +kernel) (lg_le (List.forall_mem_cons.mpr ⟨rfl, List.forall_mem_cons.mpr ⟨(cat_vr _), fun _ h => absurd h List.not_mem_nil⟩⟩) (Nat.le_of_ble_eq_true rfl)) (lv_args_cat (List.forall_mem_cons.mpr ⟨rfl, List.forall_mem_cons.mpr ⟨(cat_vr _), fun _ h => absurd h List.not_mem_nil⟩⟩)) ?_
  intro X ad0 hln hC hnL hrt hnm hT hmd
  subst hln
  have hG := hC.1
  rw [lv_args_s (List.forall_mem_cons.mpr ⟨rfl, List.forall_mem_cons.mpr ⟨(cat_vr _), fun _ h => absurd h List.not_mem_nil⟩⟩)]
  show GC X Y (cM Y X 5 t ad0 rV) _ t 0 [(0, .ref v0), (1, vr v1)] []
  unfold fX1_fails
  refine gc_aload_n hG (v := .ref v0) (refV_a _) dX1_fails_0 rfl rfl ?_
  refine gc_dup hG dX1_fails_1 rfl ?_
  refine gc_gd (fun hk => ?_)
  refine gc_get hC (ci := 1) (j := 11) (v := .int (cI t 17 v0)) hk dX1_fails_2 rfl (by decide) in_X1 q184 (fun _ h => h) rfl ?_
  refine gc_letv (fun x1 h_ => ?_)
  refine gc_iconst hG (nI 1) dX1_fails_5 (by decide) ?_
  refine gc_iadd hG dX1_fails_6 ?_
  refine gc_gd (fun hk => ?_)
  have pt := pt_I (s := t) (f := 17) (a := v0) (x := (x1 + (nI 1))) rfl
  refine gc_put hC tyX1 tyX1_ok nmX1 hk dX1_fails_7 (ci := 1) (j := 11) (Or.inl (by decide)) rfl (by decide) in_X1 q184 (fun _ h => h) rfl (tyX1_ok 11 (by decide)) (fun _ => rfl) (fun _ => rfl) pt.1.1 pt.1.2.1 pt.1.2.2.1 pt.1.2.2.2 pt.2.1 pt.2.2.1 pt.2.2.2 ?_
  refine gc_letS (fun s2 => ?_)
  refine gc_aload_n hG (v := vr v1) (refV_x _) dX1_fails_10 rfl rfl ?_
  refine gc_astore_n hG (refV_x _) dX1_fails_11 rfl (Nat.le_of_ble_eq_true rfl) (lv' := [(0, _), (1, _), (2, _)]) rfl ?_
  refine gc_iconst hG (nI 1) dX1_fails_12 (by decide) ?_
  refine gc_istore_n hG dX1_fails_13 rfl (Nat.le_of_ble_eq_true rfl) (lv' := [(0, _), (1, _), (2, _), (3, _)]) rfl ?_
  refine gc_sub [0, 2, 3] rfl ?_
  refine gfX1_fails_L14 (s0 := t) (ad0 := ad0) hC hl hY hnL hrt hnm hT hmd v0 _ (fun v2_7 t8 => ?_) FU v1 (nI 1) s2
  refine gc_aload_n hG (v := .ref v0) (refV_a _) dX1_fails_36 rfl rfl ?_
  refine gc_aload_n hG (v := vr v2_7) (refV_x _) dX1_fails_37 rfl rfl ?_
  refine gc_gd (fun hk => ?_)
  have pt := pt_R (s := t8) (f := 16) (a := v0) (x := v2_7) rfl
  refine gc_put hC tyX1 tyX1_ok nmX1 hk dX1_fails_38 (ci := 1) (j := 10) (Or.inl (by decide)) rfl (by decide) in_X1 q182 (fun _ h => h) rfl (tyX1_ok 10 (by decide)) (nar_o v2_7) (fit_o v2_7) pt.1.1 pt.1.2.1 pt.1.2.2.1 pt.1.2.2.2 pt.2.1 pt.2.2.1 pt.2.2.2 ?_
  refine gc_letS (fun s9 => ?_)
  exact gc_vret hC hrt rfl dX1_fails_41
def fX1_deals (v0 : Nat) (v1 : Option Nat) (v2 : Option Nat) (t : cS) : Option (Int32 × cS) :=
  gd (cK t v0 = 2) (
  letv (cI t 9 v0) (fun x1 =>
  gd (cK t v0 = 2) (
  letv (sI t 9 v0 (x1 + (nI 1))) (fun s2 =>
  gd (cK s2 v0 = 2) (
  letv (cR s2 14 v0) (fun x3 =>
  gd (cK s2 v0 = 2) (
  letv (cI s2 15 v0) (fun x4 =>
  rv v1 (fun a5 =>
  gd (cK s2 a5 = 5) (
  letv (cI s2 26 a5) (fun x6 =>
  rv v2 (fun a7 =>
  ob (fD_code a7 s2) (fun r8 s9 =>
  rv x3 (fun a10 =>
  gd (cK s9 a10 = 20 ∧ cIn s9 a10 (irm x4 (nI 30))) (
  letv (sI s9 (ei ((irm x4 (nI 30))).toNatClampNeg) a10 ((((nI 1000) * x6) + (nI 300)) + r8)) (fun s11 =>
  gd (cK s11 v0 = 2) (
  letv (cI s11 15 v0) (fun x12 =>
  gd (cK s11 v0 = 2) (
  letv (sI s11 15 v0 (x12 + (nI 1))) (fun s13 =>
  gd (cK s13 v0 = 2) (
  obx (fX1_does v0 (some a5) (some a7) s13) (fun r14 s15 =>
    (some ((nI 0), s15))
  ) (fun e16 s17 =>
    gd (cK s17 e16 = 10) (
    gd (cK s17 v0 = 2) (
    ob (fX1_fails v0 (some e16) s17) (fun r18 s19 =>
    gd (cK s19 e16 = 10) (
    letv (cI s19 58 e16) (fun x20 =>
    (some (x20, s19))
    )
    )
    )
    )
    )
  )
  )
  )
  )
  )
  )
  )
  )
  )
  )
  )
  )
  )
  )
  )
  )
  )
  )
  )
  )
  )
  )
theorem mfX1_deals (v0 : Nat) (v1 : Option Nat) (v2 : Option Nat) (t : cS) : MO t (fX1_deals v0 v1 v2 t) := by
  unfold fX1_deals
  refine mo_gd ?_
  refine mo_letv (fun _ => ?_)
  refine mo_gd ?_
  refine mo_letS cMo_sI (fun _ => ?_)
  refine mo_gd ?_
  refine mo_letv (fun _ => ?_)
  refine mo_gd ?_
  refine mo_letv (fun _ => ?_)
  refine mo_rv (fun _ => ?_)
  refine mo_gd ?_
  refine mo_letv (fun _ => ?_)
  refine mo_rv (fun _ => ?_)
  refine mo_ob (by apply mfD_code) (fun _ _ => ?_)
  refine mo_rv (fun _ => ?_)
  refine mo_gd ?_
  refine mo_letS cMo_sI (fun _ => ?_)
  refine mo_gd ?_
  refine mo_letv (fun _ => ?_)
  refine mo_gd ?_
  refine mo_letS cMo_sI (fun _ => ?_)
  refine mo_gd ?_
  refine mo_obx (by apply mfX1_does) (fun _ _ => ?_) (fun _ _ => ?_)
  · exact mo_some
  · refine mo_gd ?_
    refine mo_gd ?_
    refine mo_ob (by apply mfX1_fails) (fun _ _ => ?_)
    refine mo_gd ?_
    refine mo_letv (fun _ => ?_)
    exact mo_some
set_option maxHeartbeats 4000000 in
theorem wX1_deals (l : Launch) (Y : cY) (hl : l.stackTraces = false) (hY : ∀ q, q < Y.2.2.2.2.size → ¬ Y.2.2.2.1 q) (v0 : Nat) (v1 : Option Nat) (v2 : Option Nat) (t : cS) : cFn l Y yX1_deals (wsW_ yX1_deals cX1_deals 4 (some .int) [(49, 56, 57, 194)]) 36 [.ref v0, vr v1, vr v2] t (fX1_deals v0 v1 v2 t) rI := by
  refine cmetW (av := [.ref v0, vr v1, vr v2]) (mfX1_deals v0 v1 v2 t) hl hY (by decide +kernel) (lg_le (List.forall_mem_cons.mpr ⟨rfl, List.forall_mem_cons.mpr ⟨(cat_vr _), List.forall_mem_cons.mpr ⟨(cat_vr _), fun _ h => absurd h List.not_mem_nil⟩⟩⟩) (Nat.le_of_ble_eq_true rfl)) (lv_args_cat (List.forall_mem_cons.mpr ⟨rfl, List.forall_mem_cons.mpr ⟨(cat_vr _), List.forall_mem_cons.mpr ⟨(cat_vr _), fun _ h => absurd h List.not_mem_nil⟩⟩⟩)) ?_
  intro X ad0 hln hC hnL hrt hnm hT hmd
  subst hln
  have hG := hC.1
  rw [lv_args_s (List.forall_mem_cons.mpr ⟨rfl, List.forall_mem_cons.mpr ⟨(cat_vr _), List.forall_mem_cons.mpr ⟨(cat_vr _), fun _ h => absurd h List.not_mem_nil⟩⟩⟩)]
  show GC X Y (cM Y X 4 t ad0 rI) _ t 0 [(0, .ref v0), (1, vr v1), (2, vr v2)] []
  unfold fX1_deals
  refine gc_aload_n hG (v := .ref v0) (refV_a _) dX1_deals_0 rfl rfl ?_
  refine gc_dup hG dX1_deals_1 rfl ?_
  refine gc_gd (fun hk => ?_)
  refine gc_get hC (ci := 1) (j := 3) (v := .int (cI t 9 v0)) hk dX1_deals_2 rfl (by decide) in_X1 q167 (fun _ h => h) rfl ?_
  refine gc_letv (fun x1 h_ => ?_)
  refine gc_iconst hG (nI 1) dX1_deals_5 (by decide) ?_
  refine gc_iadd hG dX1_deals_6 ?_
  refine gc_gd (fun hk => ?_)
  have pt := pt_I (s := t) (f := 9) (a := v0) (x := (x1 + (nI 1))) rfl
  refine gc_put hC tyX1 tyX1_ok nmX1 hk dX1_deals_7 (ci := 1) (j := 3) (Or.inl (by decide)) rfl (by decide) in_X1 q167 (fun _ h => h) rfl (tyX1_ok 3 (by decide)) (fun _ => rfl) (fun _ => rfl) pt.1.1 pt.1.2.1 pt.1.2.2.1 pt.1.2.2.2 pt.2.1 pt.2.2.1 pt.2.2.2 ?_
  refine gc_letS (fun s2 => ?_)
  refine gc_aload_n hG (v := .ref v0) (refV_a _) dX1_deals_10 rfl rfl ?_
  refine gc_gd (fun hk => ?_)
  refine gc_get hC (ci := 1) (j := 8) (v := vr (cR s2 14 v0)) hk dX1_deals_11 rfl (by decide) in_X1 q178 (fun _ h => h) rfl ?_
  refine gc_letr (fun x3 h_ => ?_)
  refine gc_aload_n hG (v := .ref v0) (refV_a _) dX1_deals_14 rfl rfl ?_
  refine gc_gd (fun hk => ?_)
  refine gc_get hC (ci := 1) (j := 9) (v := .int (cI s2 15 v0)) hk dX1_deals_15 rfl (by decide) in_X1 q180 (fun _ h => h) rfl ?_
  refine gc_letv (fun x4 h_ => ?_)
  refine gc_bipush hG (nI 30) dX1_deals_18 (by decide) ?_
  refine gc_irem hG dX1_deals_20 (by decide) ?_
  refine gc_sipush hG (nI 1000) dX1_deals_21 (by decide) ?_
  refine gc_aload_n hG (v := vr v1) (refV_x _) dX1_deals_24 rfl rfl ?_
  refine gc_rv (fun a5 h_ => ?_)
  subst h_
  refine gc_gd (fun hk => ?_)
  refine gc_getN hC (ci := 4) (j := 0) (v := .int (cI s2 26 a5)) hk dX1_deals_25 rfl (by decide) in_X5 q283 (fun _ h => h) rfl ?_
  refine gc_letv (fun x6 h_ => ?_)
  refine gc_imul hG dX1_deals_28 ?_
  refine gc_sipush hG (nI 300) dX1_deals_29 (by decide) ?_
  refine gc_iadd hG dX1_deals_32 ?_
  refine gc_aload_n hG (v := vr v2) (refV_x _) dX1_deals_33 rfl rfl ?_
  refine gc_rv (fun a7 h_ => ?_)
  subst h_
  refine gD_code (rest := [.int (((nI 1000) * x6) + (nI 300)), .int (irm x4 (nI 30)), vr x3]) hC hnL hl hY dX1_deals_34 q720 (by decide) (by simp [cat_vr, cat_r, cat_i, cat_n]) (kn_I (fun r8 s9 => ?_)) kx_I
  refine gc_iadd hG dX1_deals_37 ?_
  refine gc_rv (fun a10 h_ => ?_)
  subst h_
  refine gc_gd (fun hk => ?_)
  refine gc_iast hC hk.1 hk.2 dX1_deals_38 ?_
  refine gc_letS (fun s11 => ?_)
  refine gc_aload_n hG (v := .ref v0) (refV_a _) dX1_deals_39 rfl rfl ?_
  refine gc_dup hG dX1_deals_40 rfl ?_
  refine gc_gd (fun hk => ?_)
  refine gc_get hC (ci := 1) (j := 9) (v := .int (cI s11 15 v0)) hk dX1_deals_41 rfl (by decide) in_X1 q180 (fun _ h => h) rfl ?_
  refine gc_letv (fun x12 h_ => ?_)
  refine gc_iconst hG (nI 1) dX1_deals_44 (by decide) ?_
  refine gc_iadd hG dX1_deals_45 ?_
  refine gc_gd (fun hk => ?_)
  have pt := pt_I (s := s11) (f := 15) (a := v0) (x := (x12 + (nI 1))) rfl
  refine gc_put hC tyX1 tyX1_ok nmX1 hk dX1_deals_46 (ci := 1) (j := 9) (Or.inl (by decide)) rfl (by decide) in_X1 q180 (fun _ h => h) rfl (tyX1_ok 9 (by decide)) (fun _ => rfl) (fun _ => rfl) pt.1.1 pt.1.2.1 pt.1.2.2.1 pt.1.2.2.2 pt.2.1 pt.2.2.1 pt.2.2.2 ?_
  refine gc_letS (fun s13 => ?_)
  refine gc_aload_n hG (v := .ref v0) (refV_a _) dX1_deals_49 rfl rfl ?_
  refine gc_aload_n hG (v := .ref a5) (refV_a _) dX1_deals_50 rfl rfl ?_
  refine gc_aload_n hG (v := .ref a7) (refV_a _) dX1_deals_51 rfl rfl ?_
  refine gc_gd (fun hk => ?_)
  refine gc_callVX (f := fX1_does v0 (some a5) (some a7) s13) (As := [.ref a5, .ref a7]) (rest := []) (n := 2) (d' := 34) (b := v0) hC hnL (wX1_does (gLn X) Y hl hY v0 (some a5) (some a7) s13) hk (ci := 1) rfl dX1_deals_52 q721 q723 qs7 q75 q724 ⟨by decide +kernel, by decide +kernel⟩ rfl (by decide) (by decide) (Nat.le_of_ble_eq_true rfl) (kn_Vx (fun r14 s15 => ?_)) (kx_Vx (fun e16 s17 => ?_))
  · refine gc_iconst hG (nI 0) dX1_deals_55 (by decide) ?_
    exact gc_iret hC hrt rfl rfl dX1_deals_56
  · refine gx_gd (fun hk => ?_)
    refine gx_catchR hC hk (ci := 9) rfl [] ((tableOf [(49, 56, 57, 194)])[0]) [] (by rw [hT]; rfl) (fun _ h => absurd h List.not_mem_nil) rfl (by decide) q719 q729 rfl ?_
    refine gc_astore_n hG (refV_a _) dX1_deals_57 rfl (Nat.le_of_ble_eq_true rfl) (lv' := [(0, _), (1, _), (2, _), (3, _)]) rfl ?_
    refine gc_aload_n hG (v := .ref v0) (refV_a _) dX1_deals_58 rfl rfl ?_
    refine gc_aload_n hG (v := .ref e16) (refV_a _) dX1_deals_59 rfl rfl ?_
    refine gc_gd (fun hk => ?_)
    refine gc_callVX (f := fX1_fails v0 (some e16) s17) (As := [.ref e16]) (rest := []) (n := 1) (d' := 35) (b := v0) hC hnL (wX1_fails (gLn X) Y hl hY v0 (some e16) s17) hk (ci := 1) rfl dX1_deals_60 q976 q977 q978 q75 q979 ⟨by decide +kernel, by decide +kernel⟩ rfl (by decide) (by decide) (Nat.le_of_ble_eq_true rfl) (kn_V (fun r18 s19 => ?_)) kx_V
    refine gc_aload_n hG (v := .ref e16) (refV_a _) dX1_deals_63 rfl rfl ?_
    refine gc_gd (fun hk => ?_)
    refine gc_getN hC (ci := 9) (j := 7) (v := .int (cI s19 58 e16)) hk dX1_deals_64 rfl (by decide) in_X11 q753 (fun _ h => h) rfl ?_
    refine gc_letv (fun x20 h_ => ?_)
    exact gc_iret hC hrt rfl rfl dX1_deals_67
def fX1_steps (v0 : Nat) (t : cS) : Option (Int32 × cS) :=
  gd (cK t v0 = 2) (
  ob (fX1_next v0 t) (fun r1 s2 =>
  onul r1 (
    gd (cK s2 v0 = 2) (
    letv (cR s2 12 v0) (fun x4 =>
    rv x4 (fun a5 =>
    gd (cK s2 a5 = 3) (
    letv (cI s2 24 a5) (fun x6 =>
    if x6 = 0 then
      (some ((nI 0), s2))
    else
      gd (cK s2 v0 = 2) (
      letv (cR s2 12 v0) (fun x7 =>
      rv x7 (fun a8 =>
      gd (cK s2 a8 = 3) (
      ob (fX2_takes a8 s2) (fun r9 s10 =>
      rv r9 (fun a11 =>
      gd (cK s10 a11 = 13) (
      gd (cK s10 a11 = 13) (
      letv (cI s10 60 a11) (fun x12 =>
      gd (cK s10 v0 = 2) (
      letv (sI s10 10 v0 x12) (fun s13 =>
      gd (cK s13 v0 = 2) (
      letv (cR s13 6 v0) (fun x14 =>
      gd (cK s13 a11 = 13) (
      letv (cI s13 59 a11) (fun x15 =>
      rv x14 (fun a16 =>
      gd (cK s13 a16 = 23 ∧ cIn s13 a16 x15) (
      letv (cR s13 (er (x15).toNatClampNeg) a16) (fun x17 =>
      letv (sN s13 6 0 2) (fun s18 =>
      gd (cK s18 a11 = 13) (
      letv (cI s18 61 a11) (fun x19 =>
      ob (fX7_init (cn s13) (-1 : Int32) x19 s18) (fun r20 s21 =>
      gd (cK s21 v0 = 2) (
      ob (fX1_sends v0 x17 (some (cn s13)) s21) (fun r22 s23 =>
      (some ((nI 1), s23))
      )
      )
      )
      )
      )
      )
      )
      )
      )
      )
      )
      )
      )
      )
      )
      )
      )
      )
      )
      )
      )
      )
      )
      )
    )
    )
    )
    )
    )
  ) (fun a3 =>
    gd (cK s2 a3 = 5) (
    letv (cI s2 26 a3) (fun x24 =>
    gd (cK s2 v0 = 2) (
    letv (sI s2 8 v0 x24) (fun s25 =>
    gd (cK s25 a3 = 5) (
    letv (cR s25 37 a3) (fun x26 =>
    rv x26 (fun a27 =>
    gd (cK s25 a27 = 3) (
    ob (fX2_takes a27 s25) (fun r28 s29 =>
    rv r28 (fun a30 =>
    gd (cK s29 a30 = 6 ∨ cK s29 a30 = 9) (
    gd (cK s29 v0 = 2) (
    ob (fX1_deals v0 (some a3) (some a30) s29) (fun r31 s32 =>
    (some ((nI 1), s32))
    )
    )
    )
    )
    )
    )
    )
    )
    )
    )
    )
    )
    )
  )
  )
  )
theorem mfX1_steps (v0 : Nat) (t : cS) : MO t (fX1_steps v0 t) := by
  unfold fX1_steps
  refine mo_gd ?_
  refine mo_ob (by apply mfX1_next) (fun _ _ => ?_)
  refine mo_onul ?_ (fun _ => ?_)
  · refine mo_gd ?_
    refine mo_letv (fun _ => ?_)
    refine mo_rv (fun _ => ?_)
    refine mo_gd ?_
    refine mo_letv (fun _ => ?_)
    refine mo_ite ?_ ?_
    · exact mo_some
    · refine mo_gd ?_
      refine mo_letv (fun _ => ?_)
      refine mo_rv (fun _ => ?_)
      refine mo_gd ?_
      refine mo_ob (by apply mfX2_takes) (fun _ _ => ?_)
      refine mo_rv (fun _ => ?_)
      refine mo_gd ?_
      refine mo_gd ?_
      refine mo_letv (fun _ => ?_)
      refine mo_gd ?_
      refine mo_letS cMo_sI (fun _ => ?_)
      refine mo_gd ?_
      refine mo_letv (fun _ => ?_)
      refine mo_gd ?_
      refine mo_letv (fun _ => ?_)
      refine mo_rv (fun _ => ?_)
      refine mo_gd ?_
      refine mo_letv (fun _ => ?_)
      refine mo_letS cMo_sN (fun _ => ?_)
      refine mo_gd ?_
      refine mo_letv (fun _ => ?_)
      refine mo_ob (by apply mfX7_init) (fun _ _ => ?_)
      refine mo_gd ?_
      refine mo_ob (by apply mfX1_sends) (fun _ _ => ?_)
      exact mo_some
  · refine mo_gd ?_
    refine mo_letv (fun _ => ?_)
    refine mo_gd ?_
    refine mo_letS cMo_sI (fun _ => ?_)
    refine mo_gd ?_
    refine mo_letv (fun _ => ?_)
    refine mo_rv (fun _ => ?_)
    refine mo_gd ?_
    refine mo_ob (by apply mfX2_takes) (fun _ _ => ?_)
    refine mo_rv (fun _ => ?_)
    refine mo_gd ?_
    refine mo_gd ?_
    refine mo_ob (by apply mfX1_deals) (fun _ _ => ?_)
    exact mo_some
set_option maxHeartbeats 4000000 in
theorem wX1_steps (l : Launch) (Y : cY) (hl : l.stackTraces = false) (hY : ∀ q, q < Y.2.2.2.2.size → ¬ Y.2.2.2.1 q) (v0 : Nat) (t : cS) : cFn l Y yX1_steps (ws_ yX1_steps cX1_steps 3 (some .boolean)) 37 [.ref v0] t (fX1_steps v0 t) rI := by
  refine cmet (av := [.ref v0]) (mfX1_steps v0 t) hl hY (by decide +kernel) (lg_le (List.forall_mem_cons.mpr ⟨rfl, fun _ h => absurd h List.not_mem_nil⟩) (Nat.le_of_ble_eq_true rfl)) (lv_args_cat (List.forall_mem_cons.mpr ⟨rfl, fun _ h => absurd h List.not_mem_nil⟩)) ?_
  intro X ad0 hln hC hnL hrt hnm hT hmd
  subst hln
  have hG := hC.1
  rw [lv_args_s (List.forall_mem_cons.mpr ⟨rfl, fun _ h => absurd h List.not_mem_nil⟩)]
  show GC X Y (cM Y X 3 t ad0 rI) _ t 0 [(0, .ref v0)] []
  unfold fX1_steps
  refine gc_aload_n hG (v := .ref v0) (refV_a _) dX1_steps_0 rfl rfl ?_
  refine gc_gd (fun hk => ?_)
  refine gc_callV (f := fX1_next v0 t) (As := []) (rest := []) (n := 0) (d' := 2) (b := v0) hC hnL (wX1_next (gLn X) Y hl hY v0 t) hk (ci := 1) rfl dX1_steps_1 q702 q704 qs6 q75 q705 ⟨by decide +kernel, by decide +kernel⟩ rfl (by decide) (by decide) (Nat.le_of_ble_eq_true rfl) (kn_R (fun r1 s2 => ?_)) kx_R
  refine gc_astore_n hG (refV_x _) dX1_steps_4 rfl (Nat.le_of_ble_eq_true rfl) (lv' := [(0, _), (1, _)]) rfl ?_
  refine gc_aload_n hG (v := vr r1) (refV_x _) dX1_steps_5 rfl rfl ?_
  refine gc_ifnull hG (tgt := 35) dX1_steps_6 (by decide) (fun h_ => ?_) (fun a3 h_ => ?_)
  · subst h_
    refine gc_aload_n hG (v := .ref v0) (refV_a _) dX1_steps_35 rfl rfl ?_
    refine gc_gd (fun hk => ?_)
    refine gc_get hC (ci := 1) (j := 6) (v := vr (cR s2 12 v0)) hk dX1_steps_36 rfl (by decide) in_X1 q174 (fun _ h => h) rfl ?_
    refine gc_letr (fun x4 h_ => ?_)
    refine gc_rv (fun a5 h_ => ?_)
    subst h_
    refine gc_gd (fun hk => ?_)
    refine gc_getN hC (ci := 2) (j := 3) (v := .int (cI s2 24 a5)) hk dX1_steps_39 rfl (by decide) in_X2 q135 (fun _ h => h) rfl ?_
    refine gc_letv (fun x6 h_ => ?_)
    refine gc_if_ne hG (tgt := 47) dX1_steps_42 (by decide) ?_ ?_
    · refine gc_iconst hG (nI 0) dX1_steps_45 (by decide) ?_
      exact gc_iret hC hrt (by decide) rfl dX1_steps_46
    · refine gc_aload_n hG (v := .ref v0) (refV_a _) dX1_steps_47 rfl rfl ?_
      refine gc_gd (fun hk => ?_)
      refine gc_get hC (ci := 1) (j := 6) (v := vr (cR s2 12 v0)) hk dX1_steps_48 rfl (by decide) in_X1 q174 (fun _ h => h) rfl ?_
      refine gc_letr (fun x7 h_ => ?_)
      refine gc_rv (fun a8 h_ => ?_)
      subst h_
      refine gc_gd (fun hk => ?_)
      refine gc_callV (f := fX2_takes a8 s2) (As := []) (rest := []) (n := 0) (d' := 1) (b := a8) hC hnL (wX2_takes (gLn X) Y hl hY a8 s2) hk (ci := 2) rfl dX1_steps_51 q667 q668 q669 q76 q670 ⟨by decide +kernel, by decide +kernel⟩ rfl (by decide) (by decide) (Nat.le_of_ble_eq_true rfl) (kn_R (fun r9 s10 => ?_)) kx_R
      refine gc_rv (fun a11 h_ => ?_)
      subst h_
      refine gc_gd (fun hk => ?_)
      refine gc_castE hC hk (ci := 12) rfl q470 dX1_steps_54 ?_
      refine gc_astore_n hG (refV_a _) dX1_steps_57 rfl (Nat.le_of_ble_eq_true rfl) (lv' := [(0, _), (1, _), (2, _)]) rfl ?_
      refine gc_aload_n hG (v := .ref v0) (refV_a _) dX1_steps_58 rfl rfl ?_
      refine gc_aload_n hG (v := .ref a11) (refV_a _) dX1_steps_59 rfl rfl ?_
      refine gc_gd (fun hk => ?_)
      refine gc_getN hC (ci := 12) (j := 1) (v := .int (cI s10 60 a11)) hk dX1_steps_60 rfl (by decide) in_X15 q903 (fun _ h => h) rfl ?_
      refine gc_letv (fun x12 h_ => ?_)
      refine gc_gd (fun hk => ?_)
      have pt := pt_I (s := s10) (f := 10) (a := v0) (x := x12) rfl
      refine gc_put hC tyX1 tyX1_ok nmX1 hk dX1_steps_63 (ci := 1) (j := 4) (Or.inl (by decide)) rfl (by decide) in_X1 q169 (fun _ h => h) rfl (tyX1_ok 4 (by decide)) (fun _ => rfl) (fun _ => rfl) pt.1.1 pt.1.2.1 pt.1.2.2.1 pt.1.2.2.2 pt.2.1 pt.2.2.1 pt.2.2.2 ?_
      refine gc_letS (fun s13 => ?_)
      refine gc_aload_n hG (v := .ref v0) (refV_a _) dX1_steps_66 rfl rfl ?_
      refine gc_aload_n hG (v := .ref v0) (refV_a _) dX1_steps_67 rfl rfl ?_
      refine gc_gd (fun hk => ?_)
      refine gc_get hC (ci := 1) (j := 0) (v := vr (cR s13 6 v0)) hk dX1_steps_68 rfl (by decide) in_X1 q158 (fun _ h => h) rfl ?_
      refine gc_letr (fun x14 h_ => ?_)
      refine gc_aload_n hG (v := .ref a11) (refV_a _) dX1_steps_71 rfl rfl ?_
      refine gc_gd (fun hk => ?_)
      refine gc_getN hC (ci := 12) (j := 0) (v := .int (cI s13 59 a11)) hk dX1_steps_72 rfl (by decide) in_X15 q898 (fun _ h => h) rfl ?_
      refine gc_letv (fun x15 h_ => ?_)
      refine gc_rv (fun a16 h_ => ?_)
      subst h_
      refine gc_gd (fun hk => ?_)
      refine gc_aald hC hk.1 (by decide) (by decide) (t0 := 3) rfl hk.2 dX1_steps_75 ?_
      refine gc_letr (fun x17 h_ => ?_)
      refine gc_new hC (ci := 5) tyX7 tyX7_ok rfl in_X7 dX1_steps_76 q961 q372 q81 (by decide +kernel) ?_
      refine gc_letS (fun s18 => ?_)
      refine gc_dup hG dX1_steps_79 rfl ?_
      refine gc_iconst hG (-1 : Int32) dX1_steps_80 (by decide) ?_
      refine gc_aload_n hG (v := .ref a11) (refV_a _) dX1_steps_81 rfl rfl ?_
      refine gc_gd (fun hk => ?_)
      refine gc_getN hC (ci := 12) (j := 2) (v := .int (cI s18 61 a11)) hk dX1_steps_82 rfl (by decide) in_X15 q906 (fun _ h => h) rfl ?_
      refine gc_letv (fun x19 h_ => ?_)
      refine gc_callI (f := fX7_init (cn s13) (-1 : Int32) x19 s18) (As := [.int (-1 : Int32), .int x19]) (rest := [.ref (cn s13), vr x17, .ref v0]) (n := 2) (d' := 2) (b := (cn s13)) hC hnL (wX7_init (gLn X) Y hl hY (cn s13) (-1 : Int32) x19 s18) dX1_steps_85 q1000 q374 q81 q375 ⟨by decide +kernel, by decide +kernel⟩ rfl rfl (by decide) (by decide) (by simp [cat_vr, cat_r, cat_i, cat_n]) (kn_V (fun r20 s21 => ?_)) kx_V
      refine gc_gd (fun hk => ?_)
      refine gc_callV (f := fX1_sends v0 x17 (some (cn s13)) s21) (As := [vr x17, .ref (cn s13)]) (rest := []) (n := 2) (d' := 3) (b := v0) hC hnL (wX1_sends (gLn X) Y hl hY v0 x17 (some (cn s13)) s21) hk (ci := 1) rfl dX1_steps_88 q685 q391 q392 q75 q393 ⟨by decide +kernel, by decide +kernel⟩ rfl (by decide) (by decide) (Nat.le_of_ble_eq_true rfl) (kn_I (fun r22 s23 => ?_)) kx_I
      refine gc_pop hG dX1_steps_91 rfl ?_
      refine gc_iconst hG (nI 1) dX1_steps_92 (by decide) ?_
      exact gc_iret hC hrt (by decide) rfl dX1_steps_93
  · subst h_
    refine gc_aload_n hG (v := .ref v0) (refV_a _) dX1_steps_9 rfl rfl ?_
    refine gc_aload_n hG (v := .ref a3) (refV_a _) dX1_steps_10 rfl rfl ?_
    refine gc_gd (fun hk => ?_)
    refine gc_getN hC (ci := 4) (j := 0) (v := .int (cI s2 26 a3)) hk dX1_steps_11 rfl (by decide) in_X5 q283 (fun _ h => h) rfl ?_
    refine gc_letv (fun x24 h_ => ?_)
    refine gc_gd (fun hk => ?_)
    have pt := pt_I (s := s2) (f := 8) (a := v0) (x := x24) rfl
    refine gc_put hC tyX1 tyX1_ok nmX1 hk dX1_steps_14 (ci := 1) (j := 2) (Or.inl (by decide)) rfl (by decide) in_X1 q166 (fun _ h => h) rfl (tyX1_ok 2 (by decide)) (fun _ => rfl) (fun _ => rfl) pt.1.1 pt.1.2.1 pt.1.2.2.1 pt.1.2.2.2 pt.2.1 pt.2.2.1 pt.2.2.2 ?_
    refine gc_letS (fun s25 => ?_)
    refine gc_aload_n hG (v := .ref v0) (refV_a _) dX1_steps_17 rfl rfl ?_
    refine gc_aload_n hG (v := .ref a3) (refV_a _) dX1_steps_18 rfl rfl ?_
    refine gc_aload_n hG (v := .ref a3) (refV_a _) dX1_steps_19 rfl rfl ?_
    refine gc_gd (fun hk => ?_)
    refine gc_getN hC (ci := 4) (j := 11) (v := vr (cR s25 37 a3)) hk dX1_steps_20 rfl (by decide) in_X5 q313 (fun _ h => h) rfl ?_
    refine gc_letr (fun x26 h_ => ?_)
    refine gc_rv (fun a27 h_ => ?_)
    subst h_
    refine gc_gd (fun hk => ?_)
    refine gc_callV (f := fX2_takes a27 s25) (As := []) (rest := [.ref a3, .ref v0]) (n := 0) (d' := 1) (b := a27) hC hnL (wX2_takes (gLn X) Y hl hY a27 s25) hk (ci := 2) rfl dX1_steps_23 q667 q668 q669 q76 q670 ⟨by decide +kernel, by decide +kernel⟩ rfl (by decide) (by decide) (Nat.le_of_ble_eq_true rfl) (kn_R (fun r28 s29 => ?_)) kx_R
    refine gc_rv (fun a30 h_ => ?_)
    subst h_
    refine gc_gd (fun hk => ?_)
    refine gc_or2 hk (fun hk h_ => gc_castY hC hk (ci := 5) rfl q714 q1678 dX1_steps_26 h_) (fun hk h_ => gc_castY hC hk (ci := 8) rfl q714 q1679 dX1_steps_26 h_) ?_
    refine gc_gd (fun hk => ?_)
    refine gc_callVX (f := fX1_deals v0 (some a3) (some a30) s29) (As := [.ref a3, .ref a30]) (rest := []) (n := 2) (d' := 36) (b := v0) hC hnL (wX1_deals (gLn X) Y hl hY v0 (some a3) (some a30) s29) hk (ci := 1) rfl dX1_steps_29 q715 q716 q717 q75 q718 ⟨by decide +kernel, by decide +kernel⟩ rfl (by decide) (by decide) (Nat.le_of_ble_eq_true rfl) (kn_I (fun r31 s32 => ?_)) kx_I
    refine gc_pop hG dX1_steps_32 rfl ?_
    refine gc_iconst hG (nI 1) dX1_steps_33 (by decide) ?_
    exact gc_iret hC hrt (by decide) rfl dX1_steps_34
