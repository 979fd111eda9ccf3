/-! the component: walks, by program (gen/cgen.py) -/
def fX16_isDigit (v0 : Nat) (t : cS) : Option (Int32 × cS) :=
  gd (cK t v0 = 14) (
  ob (fX16_sign v0 t) (fun r1 s2 =>
  ob (fX0_within r1 (nI 48) (nI 57) s2) (fun r3 s4 =>
  gd (r3 = nI 0 ∨ r3 = nI 1) (some (r3, s4))
  )
  )
  )
theorem mfX16_isDigit (v0 : Nat) (t : cS) : MO t (fX16_isDigit v0 t) := by
  unfold fX16_isDigit
  refine mo_gd ?_
  refine mo_ob (by apply mfX16_sign) (fun _ _ => ?_)
  refine mo_ob (by apply mfX0_within) (fun _ _ => ?_)
  refine mo_gd ?_
  exact mo_some
set_option maxHeartbeats 4000000 in
theorem wX16_isDigit (l : Launch) (Y : cY) (hl : l.stackTraces = false) (hY : ∀ q, q < Y.2.2.2.2.size → ¬ Y.2.2.2.1 q) (v0 : Nat) (t : cS) : cFn l Y yX16_isDigit (ws_ yX16_isDigit cX16_isDigit 1 (some .boolean)) 2 [.ref v0] t (fX16_isDigit v0 t) rI := by
  refine cmet (av := [.ref v0]) (mfX16_isDigit v0 t) hl hY (by decide +kernel) (lg_le (List.forall_mem_cons.mpr ⟨rfl, fun _ h => absurd h List.not_mem_nil⟩) (Nat.le_of_ble_eq_true rfl)) (lv_args_cat (List.forall_mem_cons.mpr ⟨rfl, fun _ h => absurd h List.not_mem_nil⟩)) ?_
  intro X ad0 hln hC hnL hrt hnm hT hmd
  subst hln
  have hG := hC.1
  rw [lv_args_s (List.forall_mem_cons.mpr ⟨rfl, fun _ h => absurd h List.not_mem_nil⟩)]
  show GC X Y (cM Y X 1 t ad0 rI) _ t 0 [(0, .ref v0)] []
  unfold fX16_isDigit
  refine gc_aload_n hG (v := .ref v0) (refV_a _) dX16_isDigit_0 rfl rfl ?_
  refine gc_gd (fun hk => ?_)
  refine gc_callV (f := fX16_sign v0 t) (As := []) (rest := []) (n := 0) (d' := 1) (b := v0) hC hnL (wX16_sign (gLn X) Y hl hY v0 t) hk (ci := 13) rfl dX16_isDigit_1 q1130 q1132 qs24 q102 q1133 ⟨by decide +kernel, by decide +kernel⟩ rfl (by decide) (by decide) (Nat.le_of_ble_eq_true rfl) (kn_I (fun r1 s2 => ?_)) kx_I
  refine gc_bipush hG (nI 48) dX16_isDigit_4 (by decide) ?_
  refine gc_bipush hG (nI 57) dX16_isDigit_6 (by decide) ?_
  refine gc_callSN (f := fX0_within r1 (nI 48) (nI 57) s2) (As := [.int r1, .int (nI 48), .int (nI 57)]) (rest := []) (n := 3) (d' := 1) hC hnL (wX0_within (gLn X) Y hl hY r1 (nI 48) (nI 57) s2) dX16_isDigit_8 q1169 q250 q74 q251 ⟨by decide +kernel, by decide +kernel⟩ rfl (by decide) (by decide) (Nat.le_of_ble_eq_true rfl) (kn_I (fun r3 s4 => ?_)) kx_I
  exact gc_gd (fun hz => gc_iret hC hrt (nar_z hz) rfl dX16_isDigit_11)
def fX16_wrong (v0 : Nat) (t : cS) : Option (Option Nat × cS) :=
  letv (sN t 15 0 7) (fun s1 =>
  gd (cK s1 v0 = 14) (
  letv (cI s1 66 v0) (fun x2 =>
  ob (fX17_init (cn t) ((-1000 : Int32) - x2) s1) (fun r3 s4 =>
  (some ((some (cn t)), s4))
  )
  )
  )
  )
theorem mfX16_wrong (v0 : Nat) (t : cS) : MO t (fX16_wrong v0 t) := by
  unfold fX16_wrong
  refine mo_letS cMo_sN (fun _ => ?_)
  refine mo_gd ?_
  refine mo_letv (fun _ => ?_)
  refine mo_ob (by apply mfX17_init) (fun _ _ => ?_)
  exact mo_some
set_option maxHeartbeats 4000000 in
theorem wX16_wrong (l : Launch) (Y : cY) (hl : l.stackTraces = false) (hY : ∀ q, q < Y.2.2.2.2.size → ¬ Y.2.2.2.1 q) (v0 : Nat) (t : cS) : cFn l Y yX16_wrong (ws_ yX16_wrong cX16_wrong 1 (some (.object "ActorTrees$Wrong"))) 4 [.ref v0] t (fX16_wrong v0 t) rR := by
  refine cmet (av := [.ref v0]) (mfX16_wrong v0 t) hl hY (by decide +kernel) (lg_le (List.forall_mem_cons.mpr ⟨rfl, fun _ h => absurd h List.not_mem_nil⟩) (Nat.le_of_ble_eq_true rfl)) (lv_args_cat (List.forall_mem_cons.mpr ⟨rfl, fun _ h => absurd h List.not_mem_nil⟩)) ?_
  intro X ad0 hln hC hnL hrt hnm hT hmd
  subst hln
  have hG := hC.1
  rw [lv_args_s (List.forall_mem_cons.mpr ⟨rfl, fun _ h => absurd h List.not_mem_nil⟩)]
  show GC X Y (cM Y X 1 t ad0 rR) _ t 0 [(0, .ref v0)] []
  unfold fX16_wrong
  refine gc_new hC (ci := 14) tyX17 tyX17_ok rfl in_X17 dX16_wrong_0 q1138 q1139 q103 (by decide +kernel) ?_
  refine gc_letS (fun s1 => ?_)
  refine gc_dup hG dX16_wrong_3 rfl ?_
  refine gc_sipush hG (-1000 : Int32) dX16_wrong_4 (by decide) ?_
  refine gc_aload_n hG (v := .ref v0) (refV_a _) dX16_wrong_7 rfl rfl ?_
  refine gc_gd (fun hk => ?_)
  refine gc_get hC (ci := 13) (j := 4) (v := .int (cI s1 66 v0)) hk dX16_wrong_8 rfl (by decide) in_X16 q1110 (fun _ h => h) rfl ?_
  refine gc_letv (fun x2 h_ => ?_)
  refine gc_isub hG dX16_wrong_11 ?_
  refine gc_callI (f := fX17_init (cn t) ((-1000 : Int32) - x2) s1) (As := [.int ((-1000 : Int32) - x2)]) (rest := [.ref (cn t)]) (n := 1) (d' := 3) (b := (cn t)) hC hnL (wX17_init (gLn X) Y hl hY (cn t) ((-1000 : Int32) - x2) s1) dX16_wrong_12 q1147 q1148 q103 q1149 ⟨by decide +kernel, by decide +kernel⟩ rfl rfl (by decide) (by decide) (Nat.le_of_ble_eq_true rfl) (kn_V (fun r3 s4 => ?_)) kx_V
  exact gc_aret hC hrt (Or.inl ⟨_, rfl⟩) (refV_a _) rfl dX16_wrong_15
def fX16_need (v0 : Nat) (v1 : Int32) (t : cS) : Option ((Unit ⊕ Nat) × cS) :=
  gd (cK t v0 = 14) (
  ob (fX16_sign v0 t) (fun r1 s2 =>
  if r1 = v1 then
    gd (cK s2 v0 = 14) (
    letv (cI s2 66 v0) (fun x3 =>
    gd (cK s2 v0 = 14) (
    letv (sI s2 66 v0 (x3 + (nI 1))) (fun s4 =>
    (some ((.inl ()), s4))
    )
    )
    )
    )
  else
    gd (cK s2 v0 = 14) (
    ob (fX16_wrong v0 s2) (fun r5 s6 =>
    rv r5 (fun a7 =>
    gd (cK s6 a7 = 15) (
    some (.inr a7, s6)
    )
    )
    )
    )
  )
  )
theorem mfX16_need (v0 : Nat) (v1 : Int32) (t : cS) : MO t (fX16_need v0 v1 t) := by
  unfold fX16_need
  refine mo_gd ?_
  refine mo_ob (by apply mfX16_sign) (fun _ _ => ?_)
  refine mo_ite ?_ ?_
  · refine mo_gd ?_
    refine mo_letv (fun _ => ?_)
    refine mo_gd ?_
    refine mo_letS cMo_sI (fun _ => ?_)
    exact mo_some
  · refine mo_gd ?_
    refine mo_ob (by apply mfX16_wrong) (fun _ _ => ?_)
    refine mo_rv (fun _ => ?_)
    refine mo_gd ?_
    exact mo_some
set_option maxHeartbeats 4000000 in
theorem wX16_need (l : Launch) (Y : cY) (hl : l.stackTraces = false) (hY : ∀ q, q < Y.2.2.2.2.size → ¬ Y.2.2.2.1 q) (v0 : Nat) (v1 : Int32) (t : cS) : cFn l Y yX16_need (ws_ yX16_need cX16_need 2 none) 5 [.ref v0, .int v1] t (fX16_need v0 v1 t) rVx := by
  refine cmet (av := [.ref v0, .int v1]) (mfX16_need v0 v1 t) hl hY (by decide +kernel) (lg_le (List.forall_mem_cons.mpr ⟨rfl, List.forall_mem_cons.mpr ⟨rfl, fun _ h => absurd h List.not_mem_nil⟩⟩) (Nat.le_of_ble_eq_true rfl)) (lv_args_cat (List.forall_mem_cons.mpr ⟨rfl, List.forall_mem_cons.mpr ⟨rfl, fun _ h => absurd h List.not_mem_nil⟩⟩)) ?_
  intro X ad0 hln hC hnL hrt hnm hT hmd
  subst hln
  have hG := hC.1
  rw [lv_args_s (List.forall_mem_cons.mpr ⟨rfl, List.forall_mem_cons.mpr ⟨rfl, fun _ h => absurd h List.not_mem_nil⟩⟩)]
  show GC X Y (cM Y X 2 t ad0 rVx) _ t 0 [(0, .ref v0), (1, .int v1)] []
  unfold fX16_need
  refine gc_aload_n hG (v := .ref v0) (refV_a _) dX16_need_0 rfl rfl ?_
  refine gc_gd (fun hk => ?_)
  refine gc_callV (f := fX16_sign v0 t) (As := []) (rest := []) (n := 0) (d' := 1) (b := v0) hC hnL (wX16_sign (gLn X) Y hl hY v0 t) hk (ci := 13) rfl dX16_need_1 q1130 q1132 qs24 q102 q1133 ⟨by decide +kernel, by decide +kernel⟩ rfl (by decide) (by decide) (Nat.le_of_ble_eq_true rfl) (kn_I (fun r1 s2 => ?_)) kx_I
  refine gc_iload_n hG dX16_need_4 rfl rfl ?_
  refine gc_icmp_eq hG (tgt := 13) dX16_need_5 (by decide) ?_ ?_
  · refine gc_aload_n hG (v := .ref v0) (refV_a _) dX16_need_13 rfl rfl ?_
    refine gc_dup hG dX16_need_14 rfl ?_
    refine gc_gd (fun hk => ?_)
    refine gc_get hC (ci := 13) (j := 4) (v := .int (cI s2 66 v0)) hk dX16_need_15 rfl (by decide) in_X16 q1110 (fun _ h => h) rfl ?_
    refine gc_letv (fun x3 h_ => ?_)
    refine gc_iconst hG (nI 1) dX16_need_18 (by decide) ?_
    refine gc_iadd hG dX16_need_19 ?_
    refine gc_gd (fun hk => ?_)
    have pt := pt_I (s := s2) (f := 66) (a := v0) (x := (x3 + (nI 1))) rfl
    refine gc_put hC tyX16 tyX16_ok nmX16 hk dX16_need_20 (ci := 13) (j := 4) (Or.inl (by decide)) rfl (by decide) in_X16 q1110 (fun _ h => h) rfl (tyX16_ok 4 (by decide)) (fun _ => rfl) (fun _ => rfl) pt.1.1 pt.1.2.1 pt.1.2.2.1 pt.1.2.2.2 pt.2.1 pt.2.2.1 pt.2.2.2 ?_
    refine gc_letS (fun s4 => ?_)
    exact gc_vret hC hrt rfl dX16_need_23
  · refine gc_aload_n hG (v := .ref v0) (refV_a _) dX16_need_8 rfl rfl ?_
    refine gc_gd (fun hk => ?_)
    refine gc_callV (f := fX16_wrong v0 s2) (As := []) (rest := []) (n := 0) (d' := 4) (b := v0) hC hnL (wX16_wrong (gLn X) Y hl hY v0 s2) hk (ci := 13) rfl dX16_need_9 q1134 q1136 qs25 q102 q1137 ⟨by decide +kernel, by decide +kernel⟩ rfl (by decide) (by decide) (Nat.le_of_ble_eq_true rfl) (kn_R (fun r5 s6 => ?_)) kx_R
    refine gc_rv (fun a7 h_ => ?_)
    subst h_
    refine gc_athrow hG dX16_need_12 ?_
    refine gx_gd (fun hk => ?_)
    exact gx_outR hC hk (ci := 14) rfl rfl (by rw [hT]; intro z hz; cases hz)
def fX16_number_L56 (v0 : Nat) (v2 : Int32) (kx : Int32 → cS → Option ((Int32 ⊕ Nat) × cS)) : Nat → Int32 → Int32 → cS → Option ((Int32 ⊕ Nat) × cS)
  | 0, _, _, _ => none
  | k + 1, v3, v4, t =>
    if v4 < (nI 2) then
      gd (cK t v0 = 14) (
      ob (fX16_isDigit v0 t) (fun r13 s14 =>
      if r13 = 0 then
        kx v3 s14
      else
        gd (cK s14 v0 = 14) (
        ob (fX16_sign v0 s14) (fun r15 s16 =>
        letv (((((nI 10) * v3) + r15) - (nI 48))) (fun y17 =>
        gd (cK s16 v0 = 14) (
        letv (cI s16 66 v0) (fun x18 =>
        gd (cK s16 v0 = 14) (
        letv (sI s16 66 v0 (x18 + (nI 1))) (fun s19 =>
        letv (v4 + (nI 1)) (fun y20 =>
        fX16_number_L56 v0 v2 kx k y17 y20 s19
        )
        )
        )
        )
        )
        )
        )
        )
      )
      )
    else
      kx v3 t
theorem mfX16_number_L56 (v0 : Nat) (v2 : Int32) (kx : Int32 → cS → Option ((Int32 ⊕ Nat) × cS)) (hkx : ∀ (v3 : Int32) (t : cS), MO t (kx v3 t)) : ∀ (k : Nat) (v3 : Int32) (v4 : Int32) (t : cS), MO t (fX16_number_L56 v0 v2 kx k v3 v4 t) := by
  intro k
  induction k with
  | zero => intro v3 v4 t; exact mo_none
  | succ k ih =>
    intro v3 v4 t
    rw [fX16_number_L56]
    refine mo_ite ?_ ?_
    · refine mo_gd ?_
      refine mo_ob (by apply mfX16_isDigit) (fun _ _ => ?_)
      refine mo_ite ?_ ?_
      · exact hkx _ _
      · refine mo_gd ?_
        refine mo_ob (by apply mfX16_sign) (fun _ _ => ?_)
        refine mo_letv (fun _ => ?_)
        refine mo_gd ?_
        refine mo_letv (fun _ => ?_)
        refine mo_gd ?_
        refine mo_letS cMo_sI (fun _ => ?_)
        refine mo_letv (fun _ => ?_)
        exact ih _ _ _
    · exact hkx _ _
set_option maxHeartbeats 4000000 in
theorem gfX16_number_L56 {X : gCx} {Y : cY} {s0 : cS} {ad0 : Nat → Nat} (hC : cOk X Y RX16 cX16_number 6) (hl : (gLn X).stackTraces = false) (hY : ∀ q, q < Y.2.2.2.2.size → ¬ Y.2.2.2.1 q) (hnL : gLoc X = 5) (hrt : gRet X = (some .int)) (hnm : X.2.2.2.2.2.2.2.2.1.name = "number") (hT : gTab X = []) (hmd : (gSt X).methodNamed? yX16_number = some (gMe X)) (v0 : Nat) (v2 : Int32) (kx : Int32 → cS → Option ((Int32 ⊕ Nat) × cS)) (hkx : ∀ (v3 : Int32) (t : cS), GC X Y (cM Y X 5 s0 ad0 rIx) (kx v3 t) t 98 [(2, .int v2), (3, .int v3)] []) : ∀ (k : Nat) (v3 : Int32) (v4 : Int32) (t : cS), GC X Y (cM Y X 5 s0 ad0 rIx) (fX16_number_L56 v0 v2 kx k v3 v4 t) t 56 [(0, .ref v0), (2, .int v2), (3, .int v3), (4, .int v4)] [] := by
  have hG := hC.1
  intro k
  induction k with
  | zero => intro v3 v4 t; exact gc_none
  | succ k ih =>
    intro v3 v4 t
    rw [fX16_number_L56]
    refine gc_iload hG dX16_number_56 rfl ?_
    refine gc_iconst hG (nI 2) dX16_number_58 (by decide) ?_
    refine gc_icmp_ge hG (tgt := 98) dX16_number_59 (by decide) ?_ ?_
    · refine gc_aload_n hG (v := .ref v0) (refV_a _) dX16_number_62 rfl rfl ?_
      refine gc_gd (fun hk => ?_)
      refine gc_callV (f := fX16_isDigit v0 t) (As := []) (rest := []) (n := 0) (d' := 2) (b := v0) hC hnL (wX16_isDigit (gLn X) Y hl hY v0 t) hk (ci := 13) rfl dX16_number_63 q1165 q1167 qs28 q102 q1168 ⟨by decide +kernel, by decide +kernel⟩ rfl (by decide) (by decide) (Nat.le_of_ble_eq_true rfl) (kn_I (fun r13 s14 => ?_)) kx_I
      refine gc_if_eq hG (tgt := 98) dX16_number_66 (by decide) ?_ ?_
      · refine gc_sub [1, 2] rfl ?_
        exact hkx v3 s14
      · refine gc_bipush hG (nI 10) dX16_number_69 (by decide) ?_
        refine gc_iload_n hG dX16_number_71 rfl rfl ?_
        refine gc_imul hG dX16_number_72 ?_
        refine gc_aload_n hG (v := .ref v0) (refV_a _) dX16_number_73 rfl rfl ?_
        refine gc_gd (fun hk => ?_)
        refine gc_callV (f := fX16_sign v0 s14) (As := []) (rest := [.int ((nI 10) * v3)]) (n := 0) (d' := 1) (b := v0) hC hnL (wX16_sign (gLn X) Y hl hY v0 s14) hk (ci := 13) rfl dX16_number_74 q1130 q1132 qs24 q102 q1133 ⟨by decide +kernel, by decide +kernel⟩ rfl (by decide) (by decide) (Nat.le_of_ble_eq_true rfl) (kn_I (fun r15 s16 => ?_)) kx_I
        refine gc_iadd hG dX16_number_77 ?_
        refine gc_bipush hG (nI 48) dX16_number_78 (by decide) ?_
        refine gc_isub hG dX16_number_80 ?_
        refine gc_letv (fun y17 hy17 => ?_)
        refine gc_istore_n hG dX16_number_81 rfl (Nat.le_of_ble_eq_true rfl) (lv' := [(0, _), (2, _), (3, _), (4, _)]) rfl ?_
        refine gc_aload_n hG (v := .ref v0) (refV_a _) dX16_number_82 rfl rfl ?_
        refine gc_dup hG dX16_number_83 rfl ?_
        refine gc_gd (fun hk => ?_)
        refine gc_get hC (ci := 13) (j := 4) (v := .int (cI s16 66 v0)) hk dX16_number_84 rfl (by decide) in_X16 q1110 (fun _ h => h) rfl ?_
        refine gc_letv (fun x18 h_ => ?_)
        refine gc_iconst hG (nI 1) dX16_number_87 (by decide) ?_
        refine gc_iadd hG dX16_number_88 ?_
        refine gc_gd (fun hk => ?_)
        have pt := pt_I (s := s16) (f := 66) (a := v0) (x := (x18 + (nI 1))) rfl
        refine gc_put hC tyX16 tyX16_ok nmX16 hk dX16_number_89 (ci := 13) (j := 4) (Or.inl (by decide)) rfl (by decide) in_X16 q1110 (fun _ h => h) rfl (tyX16_ok 4 (by decide)) (fun _ => rfl) (fun _ => rfl) pt.1.1 pt.1.2.1 pt.1.2.2.1 pt.1.2.2.2 pt.2.1 pt.2.2.1 pt.2.2.2 ?_
        refine gc_letS (fun s19 => ?_)
        refine gc_letiinc hG (c := (nI 1)) (lv' := fun y20 => [(0, .ref v0), (2, .int v2), (3, .int y17), (4, .int y20)]) dX16_number_92 rfl (by decide) (Nat.le_of_ble_eq_true rfl) (fun _ => rfl) (fun y20 => ?_)
        refine gc_goto hG (tgt := 56) dX16_number_95 (by decide) ?_
        exact ih y17 y20 s19
    · refine gc_sub [1, 2] rfl ?_
      exact hkx v3 t
def fX16_number (v0 : Nat) (v1 : Int32) (t : cS) : Option ((Int32 ⊕ Nat) × cS) :=
  gd (cK t v0 = 14) (
  obx (fX16_need v0 (nI 32) t) (fun r1 s2 =>
    jn (fun (x3 : Int32) (t4 : cS) =>
      jn (fun  (t6 : cS) =>
        gd (cK t6 v0 = 14) (
        ob (fX16_isDigit v0 t6) (fun r8 s9 =>
        if r8 = 0 then
          gd (cK s9 v0 = 14) (
          ob (fX16_wrong v0 s9) (fun r10 s11 =>
          rv r10 (fun a12 =>
          gd (cK s11 a12 = 15) (
          some (.inr a12, s11)
          )
          )
          )
          )
        else
          fX16_number_L56 v0 x3 (fun (v3_21 : Int32) (t22 : cS) =>
            if x3 = 0 then
              (some ((.inl v3_21), t22))
            else
              (some ((.inl ((-v3_21))), t22))
            ) FU (nI 0) (nI 0) s9
        )
        )
        ) (fun (j7 : cS → Option ((Int32 ⊕ Nat) × cS)) =>
        if x3 = 0 then
          j7 t4
        else
          gd (cK t4 v0 = 14) (
          letv (cI t4 66 v0) (fun x23 =>
          gd (cK t4 v0 = 14) (
          letv (sI t4 66 v0 (x23 + (nI 1))) (fun s24 =>
          j7 s24
          )
          )
          )
          )
        )
      ) (fun (j5 : Int32 → cS → Option ((Int32 ⊕ Nat) × cS)) =>
      jn (fun  (t25 : cS) =>
        j5 (nI 0) t25
        ) (fun (j26 : cS → Option ((Int32 ⊕ Nat) × cS)) =>
        if v1 = 0 then
          j26 s2
        else
          gd (cK s2 v0 = 14) (
          ob (fX16_sign v0 s2) (fun r27 s28 =>
          if r27 = (nI 45) then
            j5 (nI 1) s28
          else
            j26 s28
          )
          )
        )
      )
  ) (fun e29 s30 =>
    gd (cK s30 e29 = 15) (
    some (.inr e29, s30)
    )
  )
  )
theorem mfX16_number (v0 : Nat) (v1 : Int32) (t : cS) : MO t (fX16_number v0 v1 t) := by
  unfold fX16_number
  refine mo_gd ?_
  refine mo_obx (by apply mfX16_need) (fun _ _ => ?_) (fun _ _ => ?_)
  · refine mo_jn (fun j_ => ∀ ( x3 : Int32 ) ( t4 : cS ), MO t4 (j_ x3 t4)) (fun x3 t4 => ?_) (fun j5 hj5 => ?_)
    · refine mo_jn (fun j_ => ∀ ( t6 : cS ), MO t6 (j_ t6)) (fun t6 => ?_) (fun j7 hj7 => ?_)
      · refine mo_gd ?_
        refine mo_ob (by apply mfX16_isDigit) (fun _ _ => ?_)
        refine mo_ite ?_ ?_
        · refine mo_gd ?_
          refine mo_ob (by apply mfX16_wrong) (fun _ _ => ?_)
          refine mo_rv (fun _ => ?_)
          refine mo_gd ?_
          exact mo_some
        · refine mfX16_number_L56 _ _ _ (fun _ _ => ?_) _ _ _ _
          refine mo_ite ?_ ?_
          · exact mo_some
          · exact mo_some
      · refine mo_ite ?_ ?_
        · exact hj7 _
        · refine mo_gd ?_
          refine mo_letv (fun _ => ?_)
          refine mo_gd ?_
          refine mo_letS cMo_sI (fun _ => ?_)
          exact hj7 _
    · refine mo_jn (fun j_ => ∀ ( t25 : cS ), MO t25 (j_ t25)) (fun t25 => ?_) (fun j26 hj26 => ?_)
      · exact hj5 _ _
      · refine mo_ite ?_ ?_
        · exact hj26 _
        · refine mo_gd ?_
          refine mo_ob (by apply mfX16_sign) (fun _ _ => ?_)
          refine mo_ite ?_ ?_
          · exact hj5 _ _
          · exact hj26 _
  · refine mo_gd ?_
    exact mo_some
set_option maxHeartbeats 4000000 in
theorem wX16_number (l : Launch) (Y : cY) (hl : l.stackTraces = false) (hY : ∀ q, q < Y.2.2.2.2.size → ¬ Y.2.2.2.1 q) (v0 : Nat) (v1 : Int32) (t : cS) : cFn l Y yX16_number (ws_ yX16_number cX16_number 5 (some .int)) 6 [.ref v0, .int v1] t (fX16_number v0 v1 t) rIx := by
  refine cmet (av := [.ref v0, .int v1]) (mfX16_number v0 v1 t) hl hY (by decide +kernel) (lg_le (List.forall_mem_cons.mpr ⟨rfl, List.forall_mem_cons.mpr ⟨rfl, fun _ h => absurd h List.not_mem_nil⟩⟩) (Nat.le_of_ble_eq_true rfl)) (lv_args_cat (List.forall_mem_cons.mpr ⟨rfl, List.forall_mem_cons.mpr ⟨rfl, fun _ h => absurd h List.not_mem_nil⟩⟩)) ?_
  intro X ad0 hln hC hnL hrt hnm hT hmd
  subst hln
  have hG := hC.1
  rw [lv_args_s (List.forall_mem_cons.mpr ⟨rfl, List.forall_mem_cons.mpr ⟨rfl, fun _ h => absurd h List.not_mem_nil⟩⟩)]
  show GC X Y (cM Y X 5 t ad0 rIx) _ t 0 [(0, .ref v0), (1, .int v1)] []
  unfold fX16_number
  refine gc_aload_n hG (v := .ref v0) (refV_a _) dX16_number_0 rfl rfl ?_
  refine gc_bipush hG (nI 32) dX16_number_1 (by decide) ?_
  refine gc_gd (fun hk => ?_)
  refine gc_callV (f := fX16_need v0 (nI 32) t) (As := [.int (nI 32)]) (rest := []) (n := 1) (d' := 5) (b := v0) hC hnL (wX16_need (gLn X) Y hl hY v0 (nI 32) t) hk (ci := 13) rfl dX16_number_3 q1161 q1163 qs27 q102 q1164 ⟨by decide +kernel, by decide +kernel⟩ rfl (by decide) (by decide) (Nat.le_of_ble_eq_true rfl) (kn_Vx (fun r1 s2 => ?_)) (kx_Vx (fun e29 s30 => ?_))
  · refine gc_iload_n hG dX16_number_6 rfl rfl ?_
    refine gc_jn (fun j_ => ∀ (x3 : Int32) (t4 : cS), GC X Y (cM Y X 5 t ad0 rIx) (j_ x3 t4) t4 24 [(0, .ref v0)] [.int x3]) (fun x3 t4 => ?_) (fun j5 hj5 => ?_)
    · refine gc_istore_n hG dX16_number_24 rfl (Nat.le_of_ble_eq_true rfl) (lv' := [(0, _), (2, _)]) rfl ?_
      refine gc_iload_n hG dX16_number_25 rfl rfl ?_
      refine gc_jn (fun j_ => ∀  (t6 : cS), GC X Y (cM Y X 5 t ad0 rIx) (j_ t6) t6 39 [(0, .ref v0), (2, .int x3)] []) (fun t6 => ?_) (fun j7 hj7 => ?_)
      · refine gc_aload_n hG (v := .ref v0) (refV_a _) dX16_number_39 rfl rfl ?_
        refine gc_gd (fun hk => ?_)
        refine gc_callV (f := fX16_isDigit v0 t6) (As := []) (rest := []) (n := 0) (d' := 2) (b := v0) hC hnL (wX16_isDigit (gLn X) Y hl hY v0 t6) hk (ci := 13) rfl dX16_number_40 q1165 q1167 qs28 q102 q1168 ⟨by decide +kernel, by decide +kernel⟩ rfl (by decide) (by decide) (Nat.le_of_ble_eq_true rfl) (kn_I (fun r8 s9 => ?_)) kx_I
        refine gc_if_ne hG (tgt := 51) dX16_number_43 (by decide) ?_ ?_
        · refine gc_aload_n hG (v := .ref v0) (refV_a _) dX16_number_46 rfl rfl ?_
          refine gc_gd (fun hk => ?_)
          refine gc_callV (f := fX16_wrong v0 s9) (As := []) (rest := []) (n := 0) (d' := 4) (b := v0) hC hnL (wX16_wrong (gLn X) Y hl hY v0 s9) hk (ci := 13) rfl dX16_number_47 q1134 q1136 qs25 q102 q1137 ⟨by decide +kernel, by decide +kernel⟩ rfl (by decide) (by decide) (Nat.le_of_ble_eq_true rfl) (kn_R (fun r10 s11 => ?_)) kx_R
          refine gc_rv (fun a12 h_ => ?_)
          subst h_
          refine gc_athrow hG dX16_number_50 ?_
          refine gx_gd (fun hk => ?_)
          exact gx_outR hC hk (ci := 14) rfl rfl (by rw [hT]; intro z hz; cases hz)
        · refine gc_iconst hG (nI 0) dX16_number_51 (by decide) ?_
          refine gc_istore_n hG dX16_number_52 rfl (Nat.le_of_ble_eq_true rfl) (lv' := [(0, _), (2, _), (3, _)]) rfl ?_
          refine gc_iconst hG (nI 0) dX16_number_53 (by decide) ?_
          refine gc_istore hG dX16_number_54 (Nat.le_of_ble_eq_true rfl) (lv' := [(0, _), (2, _), (3, _), (4, _)]) rfl ?_
          refine gfX16_number_L56 (s0 := t) (ad0 := ad0) hC hl hY hnL hrt hnm hT hmd v0 x3 _ (fun v3_21 t22 => ?_) FU (nI 0) (nI 0) s9
          refine gc_iload_n hG dX16_number_98 rfl rfl ?_
          refine gc_if_eq hG (tgt := 107) dX16_number_99 (by decide) ?_ ?_
          · refine gc_iload_n hG dX16_number_107 rfl rfl ?_
            exact gc_iret hC hrt rfl rfl dX16_number_108
          · refine gc_iload_n hG dX16_number_102 rfl rfl ?_
            refine gc_ineg hG dX16_number_103 ?_
            refine gc_goto hG (tgt := 108) dX16_number_104 (by decide) ?_
            exact gc_iret hC hrt rfl rfl dX16_number_108
      · refine gc_if_eq hG (tgt := 39) dX16_number_26 (by decide) ?_ ?_
        · exact hj7 t4
        · refine gc_aload_n hG (v := .ref v0) (refV_a _) dX16_number_29 rfl rfl ?_
          refine gc_dup hG dX16_number_30 rfl ?_
          refine gc_gd (fun hk => ?_)
          refine gc_get hC (ci := 13) (j := 4) (v := .int (cI t4 66 v0)) hk dX16_number_31 rfl (by decide) in_X16 q1110 (fun _ h => h) rfl ?_
          refine gc_letv (fun x23 h_ => ?_)
          refine gc_iconst hG (nI 1) dX16_number_34 (by decide) ?_
          refine gc_iadd hG dX16_number_35 ?_
          refine gc_gd (fun hk => ?_)
          have pt := pt_I (s := t4) (f := 66) (a := v0) (x := (x23 + (nI 1))) rfl
          refine gc_put hC tyX16 tyX16_ok nmX16 hk dX16_number_36 (ci := 13) (j := 4) (Or.inl (by decide)) rfl (by decide) in_X16 q1110 (fun _ h => h) rfl (tyX16_ok 4 (by decide)) (fun _ => rfl) (fun _ => rfl) pt.1.1 pt.1.2.1 pt.1.2.2.1 pt.1.2.2.2 pt.2.1 pt.2.2.1 pt.2.2.2 ?_
          refine gc_letS (fun s24 => ?_)
          exact hj7 s24
    · refine gc_jn (fun j_ => ∀  (t25 : cS), GC X Y (cM Y X 5 t ad0 rIx) (j_ t25) t25 23 [(0, .ref v0)] []) (fun t25 => ?_) (fun j26 hj26 => ?_)
      · refine gc_iconst hG (nI 0) dX16_number_23 (by decide) ?_
        exact hj5 (nI 0) t25
      · refine gc_if_eq hG (tgt := 23) dX16_number_7 (by decide) ?_ ?_
        · refine gc_sub [0] rfl ?_
          exact hj26 s2
        · refine gc_aload_n hG (v := .ref v0) (refV_a _) dX16_number_10 rfl rfl ?_
          refine gc_gd (fun hk => ?_)
          refine gc_callV (f := fX16_sign v0 s2) (As := []) (rest := []) (n := 0) (d' := 1) (b := v0) hC hnL (wX16_sign (gLn X) Y hl hY v0 s2) hk (ci := 13) rfl dX16_number_11 q1130 q1132 qs24 q102 q1133 ⟨by decide +kernel, by decide +kernel⟩ rfl (by decide) (by decide) (Nat.le_of_ble_eq_true rfl) (kn_I (fun r27 s28 => ?_)) kx_I
          refine gc_bipush hG (nI 45) dX16_number_14 (by decide) ?_
          refine gc_icmp_ne hG (tgt := 23) dX16_number_16 (by decide) ?_ ?_
          · refine gc_iconst hG (nI 1) dX16_number_19 (by decide) ?_
            refine gc_goto hG (tgt := 24) dX16_number_20 (by decide) ?_
            refine gc_sub [0] rfl ?_
            exact hj5 (nI 1) s28
          · refine gc_sub [0] rfl ?_
            exact hj26 s28
  · refine gx_gd (fun hk => ?_)
    exact gx_outR hC hk (ci := 14) rfl rfl (by rw [hT]; intro z hz; cases hz)
def fX16_line_L74 (v0 : Nat) (v1 : Int32) (v2 : Int32) (v3 : Int32) (kx : cS → Option ((Unit ⊕ Nat) × cS)) : Nat → Int32 → cS → Option ((Unit ⊕ Nat) × cS)
  | 0, _, _ => none
  | k + 1, v4, t =>
    if v2 < v4 then
      kx t
    else
      gd (cK t v0 = 14) (
      letv (cR t 64 v0) (fun x16 =>
      jn (fun (x17 : Int32) (t18 : cS) =>
        gd (cK t18 v0 = 14) (
        obx (fX16_number v0 x17 t18) (fun r20 s21 =>
          rv x16 (fun a22 =>
          gd (cK s21 a22 = 20 ∧ cIn s21 a22 (v3 + v4)) (
          letv (sI s21 (ei ((v3 + v4)).toNatClampNeg) a22 r20) (fun s23 =>
          letv (v4 + (nI 1)) (fun y24 =>
          fX16_line_L74 v0 v1 v2 v3 kx k y24 s23
          )
          )
          )
          )
        ) (fun e25 s26 =>
          gd (cK s26 e25 = 15) (
          some (.inr e25, s26)
          )
        )
        )
        ) (fun (j19 : Int32 → cS → Option ((Unit ⊕ Nat) × cS)) =>
        jn (fun  (t27 : cS) =>
          j19 (nI 0) t27
          ) (fun (j28 : cS → Option ((Unit ⊕ Nat) × cS)) =>
          if v1 = (nI 109) then
            if v4 = (nI 2) then
              j19 (nI 1) t
            else
              j28 t
          else
            j28 t
          )
        )
      )
      )
theorem mfX16_line_L74 (v0 : Nat) (v1 : Int32) (v2 : Int32) (v3 : Int32) (kx : cS → Option ((Unit ⊕ Nat) × cS)) (hkx : ∀  (t : cS), MO t (kx t)) : ∀ (k : Nat) (v4 : Int32) (t : cS), MO t (fX16_line_L74 v0 v1 v2 v3 kx k v4 t) := by
  intro k
  induction k with
  | zero => intro v4 t; exact mo_none
  | succ k ih =>
    intro v4 t
    rw [fX16_line_L74]
    refine mo_ite ?_ ?_
    · exact hkx _
    · refine mo_gd ?_
      refine mo_letv (fun _ => ?_)
      refine mo_jn (fun j_ => ∀ ( x17 : Int32 ) ( t18 : cS ), MO t18 (j_ x17 t18)) (fun x17 t18 => ?_) (fun j19 hj19 => ?_)
      · refine mo_gd ?_
        refine mo_obx (by apply mfX16_number) (fun _ _ => ?_) (fun _ _ => ?_)
        · refine mo_rv (fun _ => ?_)
          refine mo_gd ?_
          refine mo_letS cMo_sI (fun _ => ?_)
          refine mo_letv (fun _ => ?_)
          exact ih _ _
        · refine mo_gd ?_
          exact mo_some
      · refine mo_jn (fun j_ => ∀ ( t27 : cS ), MO t27 (j_ t27)) (fun t27 => ?_) (fun j28 hj28 => ?_)
        · exact hj19 _ _
        · refine mo_ite ?_ ?_
          · refine mo_ite ?_ ?_
            · exact hj19 _ _
            · exact hj28 _
          · exact hj28 _
set_option maxHeartbeats 4000000 in
theorem gfX16_line_L74 {X : gCx} {Y : cY} {s0 : cS} {ad0 : Nat → Nat} (hC : cOk X Y RX16 cX16_line 7) (hl : (gLn X).stackTraces = false) (hY : ∀ q, q < Y.2.2.2.2.size → ¬ Y.2.2.2.1 q) (hnL : gLoc X = 5) (hrt : gRet X = none) (hnm : X.2.2.2.2.2.2.2.2.1.name = "line") (hT : gTab X = []) (hmd : (gSt X).methodNamed? yX16_line = some (gMe X)) (v0 : Nat) (v1 : Int32) (v2 : Int32) (v3 : Int32) (kx : cS → Option ((Unit ⊕ Nat) × cS)) (hkx : ∀  (t : cS), GC X Y (cM Y X 5 s0 ad0 rVx) (kx t) t 116 [(0, .ref v0)] []) : ∀ (k : Nat) (v4 : Int32) (t : cS), GC X Y (cM Y X 5 s0 ad0 rVx) (fX16_line_L74 v0 v1 v2 v3 kx k v4 t) t 74 [(0, .ref v0), (1, .int v1), (2, .int v2), (3, .int v3), (4, .int v4)] [] := by
  have hG := hC.1
  intro k
  induction k with
  | zero => intro v4 t; exact gc_none
  | succ k ih =>
    intro v4 t
    rw [fX16_line_L74]
    refine gc_iload hG dX16_line_74 rfl ?_
    refine gc_iload_n hG dX16_line_76 rfl rfl ?_
    refine gc_icmp_gt hG (tgt := 116) dX16_line_77 (by decide) ?_ ?_
    · refine gc_sub [0] rfl ?_
      exact hkx t
    · refine gc_aload_n hG (v := .ref v0) (refV_a _) dX16_line_80 rfl rfl ?_
      refine gc_gd (fun hk => ?_)
      refine gc_get hC (ci := 13) (j := 2) (v := vr (cR t 64 v0)) hk dX16_line_81 rfl (by decide) in_X16 q1107 (fun _ h => h) rfl ?_
      refine gc_letr (fun x16 h_ => ?_)
      refine gc_iload_n hG dX16_line_84 rfl rfl ?_
      refine gc_iload hG dX16_line_85 rfl ?_
      refine gc_iadd hG dX16_line_87 ?_
      refine gc_aload_n hG (v := .ref v0) (refV_a _) dX16_line_88 rfl rfl ?_
      refine gc_iload_n hG dX16_line_89 rfl rfl ?_
      refine gc_bipush hG (nI 109) dX16_line_90 (by decide) ?_
      refine gc_jn (fun j_ => ∀ (x17 : Int32) (t18 : cS), GC X Y (cM Y X 5 s0 ad0 rVx) (j_ x17 t18) t18 106 [(0, .ref v0), (1, .int v1), (2, .int v2), (3, .int v3), (4, .int v4)] [.int x17, .ref v0, .int (v3 + v4), vr x16]) (fun x17 t18 => ?_) (fun j19 hj19 => ?_)
      · refine gc_gd (fun hk => ?_)
        refine gc_callV (f := fX16_number v0 x17 t18) (As := [.int x17]) (rest := [.int (v3 + v4), vr x16]) (n := 1) (d' := 6) (b := v0) hC hnL (wX16_number (gLn X) Y hl hY v0 x17 t18) hk (ci := 13) rfl dX16_line_106 q1157 q1159 qs26 q102 q1160 ⟨by decide +kernel, by decide +kernel⟩ rfl (by decide) (by decide) (by simp [cat_vr, cat_r, cat_i, cat_n]) (kn_Ix (fun r20 s21 => ?_)) (kx_Ix (fun e25 s26 => ?_))
        · refine gc_rv (fun a22 h_ => ?_)
          subst h_
          refine gc_gd (fun hk => ?_)
          refine gc_iast hC hk.1 hk.2 dX16_line_109 ?_
          refine gc_letS (fun s23 => ?_)
          refine gc_letiinc hG (c := (nI 1)) (lv' := fun y24 => [(0, .ref v0), (1, .int v1), (2, .int v2), (3, .int v3), (4, .int y24)]) dX16_line_110 rfl (by decide) (Nat.le_of_ble_eq_true rfl) (fun _ => rfl) (fun y24 => ?_)
          refine gc_goto hG (tgt := 74) dX16_line_113 (by decide) ?_
          exact ih y24 s23
        · refine gx_gd (fun hk => ?_)
          exact gx_outR hC hk (ci := 14) rfl rfl (by rw [hT]; intro z hz; cases hz)
      · refine gc_jn (fun j_ => ∀  (t27 : cS), GC X Y (cM Y X 5 s0 ad0 rVx) (j_ t27) t27 105 [(0, .ref v0), (1, .int v1), (2, .int v2), (3, .int v3), (4, .int v4)] [.ref v0, .int (v3 + v4), vr x16]) (fun t27 => ?_) (fun j28 hj28 => ?_)
        · refine gc_iconst hG (nI 0) dX16_line_105 (by decide) ?_
          exact hj19 (nI 0) t27
        · refine gc_icmp_ne hG (tgt := 105) dX16_line_92 (by decide) ?_ ?_
          · refine gc_iload hG dX16_line_95 rfl ?_
            refine gc_iconst hG (nI 2) dX16_line_97 (by decide) ?_
            refine gc_icmp_ne hG (tgt := 105) dX16_line_98 (by decide) ?_ ?_
            · refine gc_iconst hG (nI 1) dX16_line_101 (by decide) ?_
              refine gc_goto hG (tgt := 106) dX16_line_102 (by decide) ?_
              exact hj19 (nI 1) t
            · exact hj28 t
          · exact hj28 t
def fX16_line (v0 : Nat) (t : cS) : Option ((Unit ⊕ Nat) × cS) :=
  gd (cK t v0 = 14) (
  ob (fX16_sign v0 t) (fun r1 s2 =>
  jn (fun (x3 : Int32) (t4 : cS) =>
    if x3 = 0 then
      gd (cK t4 v0 = 14) (
      ob (fX16_wrong v0 t4) (fun r6 s7 =>
      rv r6 (fun a8 =>
      gd (cK s7 a8 = 15) (
      some (.inr a8, s7)
      )
      )
      )
      )
    else
      gd (cK t4 v0 = 14) (
      letv (cI t4 66 v0) (fun x9 =>
      gd (cK t4 v0 = 14) (
      letv (sI t4 66 v0 (x9 + (nI 1))) (fun s10 =>
      gd (cK s10 v0 = 14) (
      letv (cI s10 65 v0) (fun x11 =>
      letv (((nI 6) * x11)) (fun y12 =>
      gd (cK s10 v0 = 14) (
      letv (cR s10 64 v0) (fun x13 =>
      rv x13 (fun a14 =>
      gd (cK s10 a14 = 20 ∧ cIn s10 a14 y12) (
      letv (sI s10 (ei (y12).toNatClampNeg) a14 r1) (fun s15 =>
      fX16_line_L74 v0 r1 x3 y12 (fun  (t29 : cS) =>
        gd (cK t29 v0 = 14) (
        letv (cI t29 65 v0) (fun x30 =>
        gd (cK t29 v0 = 14) (
        letv (sI t29 65 v0 (x30 + (nI 1))) (fun s31 =>
        (some ((.inl ()), s31))
        )
        )
        )
        )
        ) FU (nI 1) s15
      )
      )
      )
      )
      )
      )
      )
      )
      )
      )
      )
      )
    ) (fun (j5 : Int32 → cS → Option ((Unit ⊕ Nat) × cS)) =>
    if r1 = (nI 97) then
      j5 (nI 5) s2
    else
      if r1 = (nI 109) then
        j5 (nI 2) s2
      else
        if r1 = (nI 115) then
          j5 (nI 1) s2
        else
          j5 (nI 0) s2
    )
  )
  )
theorem mfX16_line (v0 : Nat) (t : cS) : MO t (fX16_line v0 t) := by
  unfold fX16_line
  refine mo_gd ?_
  refine mo_ob (by apply mfX16_sign) (fun _ _ => ?_)
  refine mo_jn (fun j_ => ∀ ( x3 : Int32 ) ( t4 : cS ), MO t4 (j_ x3 t4)) (fun x3 t4 => ?_) (fun j5 hj5 => ?_)
  · refine mo_ite ?_ ?_
    · refine mo_gd ?_
      refine mo_ob (by apply mfX16_wrong) (fun _ _ => ?_)
      refine mo_rv (fun _ => ?_)
      refine mo_gd ?_
      exact mo_some
    · refine mo_gd ?_
      refine mo_letv (fun _ => ?_)
      refine mo_gd ?_
      refine mo_letS cMo_sI (fun _ => ?_)
      refine mo_gd ?_
      refine mo_letv (fun _ => ?_)
      refine mo_letv (fun _ => ?_)
      refine mo_gd ?_
      refine mo_letv (fun _ => ?_)
      refine mo_rv (fun _ => ?_)
      refine mo_gd ?_
      refine mo_letS cMo_sI (fun _ => ?_)
      refine mfX16_line_L74 _ _ _ _ _ (fun _ => ?_) _ _ _
      refine mo_gd ?_
      refine mo_letv (fun _ => ?_)
      refine mo_gd ?_
      refine mo_letS cMo_sI (fun _ => ?_)
      exact mo_some
  · refine mo_ite ?_ ?_
    · exact hj5 _ _
    · refine mo_ite ?_ ?_
      · exact hj5 _ _
      · refine mo_ite ?_ ?_
        · exact hj5 _ _
        · exact hj5 _ _
set_option maxHeartbeats 4000000 in
theorem wX16_line (l : Launch) (Y : cY) (hl : l.stackTraces = false) (hY : ∀ q, q < Y.2.2.2.2.size → ¬ Y.2.2.2.1 q) (v0 : Nat) (t : cS) : cFn l Y yX16_line (ws_ yX16_line cX16_line 5 none) 7 [.ref v0] t (fX16_line v0 t) rVx := by
  refine cmet (av := [.ref v0]) (mfX16_line v0 t) hl hY (by decide +kernel) (lg_le (List.forall_mem_cons.mpr ⟨rfl, fun _ h => absurd h List.not_mem_nil⟩) (Nat.le_of_ble_eq_true rfl)) (lv_args_cat (List.forall_mem_cons.mpr ⟨rfl, fun _ h => absurd h List.not_mem_nil⟩)) ?_
  intro X ad0 hln hC hnL hrt hnm hT hmd
  subst hln
  have hG := hC.1
  rw [lv_args_s (List.forall_mem_cons.mpr ⟨rfl, fun _ h => absurd h List.not_mem_nil⟩)]
  show GC X Y (cM Y X 5 t ad0 rVx) _ t 0 [(0, .ref v0)] []
  unfold fX16_line
  refine gc_aload_n hG (v := .ref v0) (refV_a _) dX16_line_0 rfl rfl ?_
  refine gc_gd (fun hk => ?_)
  refine gc_callV (f := fX16_sign v0 t) (As := []) (rest := []) (n := 0) (d' := 1) (b := v0) hC hnL (wX16_sign (gLn X) Y hl hY v0 t) hk (ci := 13) rfl dX16_line_1 q1130 q1132 qs24 q102 q1133 ⟨by decide +kernel, by decide +kernel⟩ rfl (by decide) (by decide) (Nat.le_of_ble_eq_true rfl) (kn_I (fun r1 s2 => ?_)) kx_I
  refine gc_istore_n hG dX16_line_4 rfl (Nat.le_of_ble_eq_true rfl) (lv' := [(0, _), (1, _)]) rfl ?_
  refine gc_iload_n hG dX16_line_5 rfl rfl ?_
  refine gc_bipush hG (nI 97) dX16_line_6 (by decide) ?_
  refine gc_jn (fun j_ => ∀ (x3 : Int32) (t4 : cS), GC X Y (cM Y X 5 t ad0 rVx) (j_ x3 t4) t4 36 [(0, .ref v0), (1, .int r1)] [.int x3]) (fun x3 t4 => ?_) (fun j5 hj5 => ?_)
  · refine gc_istore_n hG dX16_line_36 rfl (Nat.le_of_ble_eq_true rfl) (lv' := [(0, _), (1, _), (2, _)]) rfl ?_
    refine gc_iload_n hG dX16_line_37 rfl rfl ?_
    refine gc_if_ne hG (tgt := 46) dX16_line_38 (by decide) ?_ ?_
    · refine gc_aload_n hG (v := .ref v0) (refV_a _) dX16_line_41 rfl rfl ?_
      refine gc_gd (fun hk => ?_)
      refine gc_callV (f := fX16_wrong v0 t4) (As := []) (rest := []) (n := 0) (d' := 4) (b := v0) hC hnL (wX16_wrong (gLn X) Y hl hY v0 t4) hk (ci := 13) rfl dX16_line_42 q1134 q1136 qs25 q102 q1137 ⟨by decide +kernel, by decide +kernel⟩ rfl (by decide) (by decide) (Nat.le_of_ble_eq_true rfl) (kn_R (fun r6 s7 => ?_)) kx_R
      refine gc_rv (fun a8 h_ => ?_)
      subst h_
      refine gc_athrow hG dX16_line_45 ?_
      refine gx_gd (fun hk => ?_)
      exact gx_outR hC hk (ci := 14) rfl rfl (by rw [hT]; intro z hz; cases hz)
    · refine gc_aload_n hG (v := .ref v0) (refV_a _) dX16_line_46 rfl rfl ?_
      refine gc_dup hG dX16_line_47 rfl ?_
      refine gc_gd (fun hk => ?_)
      refine gc_get hC (ci := 13) (j := 4) (v := .int (cI t4 66 v0)) hk dX16_line_48 rfl (by decide) in_X16 q1110 (fun _ h => h) rfl ?_
      refine gc_letv (fun x9 h_ => ?_)
      refine gc_iconst hG (nI 1) dX16_line_51 (by decide) ?_
      refine gc_iadd hG dX16_line_52 ?_
      refine gc_gd (fun hk => ?_)
      have pt := pt_I (s := t4) (f := 66) (a := v0) (x := (x9 + (nI 1))) rfl
      refine gc_put hC tyX16 tyX16_ok nmX16 hk dX16_line_53 (ci := 13) (j := 4) (Or.inl (by decide)) rfl (by decide) in_X16 q1110 (fun _ h => h) rfl (tyX16_ok 4 (by decide)) (fun _ => rfl) (fun _ => rfl) pt.1.1 pt.1.2.1 pt.1.2.2.1 pt.1.2.2.2 pt.2.1 pt.2.2.1 pt.2.2.2 ?_
      refine gc_letS (fun s10 => ?_)
      refine gc_bipush hG (nI 6) dX16_line_56 (by decide) ?_
      refine gc_aload_n hG (v := .ref v0) (refV_a _) dX16_line_58 rfl rfl ?_
      refine gc_gd (fun hk => ?_)
      refine gc_get hC (ci := 13) (j := 3) (v := .int (cI s10 65 v0)) hk dX16_line_59 rfl (by decide) in_X16 q1108 (fun _ h => h) rfl ?_
      refine gc_letv (fun x11 h_ => ?_)
      refine gc_imul hG dX16_line_62 ?_
      refine gc_letv (fun y12 hy12 => ?_)
      refine gc_istore_n hG dX16_line_63 rfl (Nat.le_of_ble_eq_true rfl) (lv' := [(0, _), (1, _), (2, _), (3, _)]) rfl ?_
      refine gc_aload_n hG (v := .ref v0) (refV_a _) dX16_line_64 rfl rfl ?_
      refine gc_gd (fun hk => ?_)
      refine gc_get hC (ci := 13) (j := 2) (v := vr (cR s10 64 v0)) hk dX16_line_65 rfl (by decide) in_X16 q1107 (fun _ h => h) rfl ?_
      refine gc_letr (fun x13 h_ => ?_)
      refine gc_iload_n hG dX16_line_68 rfl rfl ?_
      refine gc_iload_n hG dX16_line_69 rfl rfl ?_
      refine gc_rv (fun a14 h_ => ?_)
      subst h_
      refine gc_gd (fun hk => ?_)
      refine gc_iast hC hk.1 hk.2 dX16_line_70 ?_
      refine gc_letS (fun s15 => ?_)
      refine gc_iconst hG (nI 1) dX16_line_71 (by decide) ?_
      refine gc_istore hG dX16_line_72 (Nat.le_of_ble_eq_true rfl) (lv' := [(0, _), (1, _), (2, _), (3, _), (4, _)]) rfl ?_
      refine gfX16_line_L74 (s0 := t) (ad0 := ad0) hC hl hY hnL hrt hnm hT hmd v0 r1 x3 y12 _ (fun t29 => ?_) FU (nI 1) s15
      refine gc_aload_n hG (v := .ref v0) (refV_a _) dX16_line_116 rfl rfl ?_
      refine gc_dup hG dX16_line_117 rfl ?_
      refine gc_gd (fun hk => ?_)
      refine gc_get hC (ci := 13) (j := 3) (v := .int (cI t29 65 v0)) hk dX16_line_118 rfl (by decide) in_X16 q1108 (fun _ h => h) rfl ?_
      refine gc_letv (fun x30 h_ => ?_)
      refine gc_iconst hG (nI 1) dX16_line_121 (by decide) ?_
      refine gc_iadd hG dX16_line_122 ?_
      refine gc_gd (fun hk => ?_)
      have pt := pt_I (s := t29) (f := 65) (a := v0) (x := (x30 + (nI 1))) rfl
      refine gc_put hC tyX16 tyX16_ok nmX16 hk dX16_line_123 (ci := 13) (j := 3) (Or.inl (by decide)) rfl (by decide) in_X16 q1108 (fun _ h => h) rfl (tyX16_ok 3 (by decide)) (fun _ => rfl) (fun _ => rfl) pt.1.1 pt.1.2.1 pt.1.2.2.1 pt.1.2.2.2 pt.2.1 pt.2.2.1 pt.2.2.2 ?_
      refine gc_letS (fun s31 => ?_)
      exact gc_vret hC hrt rfl dX16_line_126
  · refine gc_icmp_ne hG (tgt := 15) dX16_line_8 (by decide) ?_ ?_
    · refine gc_iconst hG (nI 5) dX16_line_11 (by decide) ?_
      refine gc_goto hG (tgt := 36) dX16_line_12 (by decide) ?_
      exact hj5 (nI 5) s2
    · refine gc_iload_n hG dX16_line_15 rfl rfl ?_
      refine gc_bipush hG (nI 109) dX16_line_16 (by decide) ?_
      refine gc_icmp_ne hG (tgt := 25) dX16_line_18 (by decide) ?_ ?_
      · refine gc_iconst hG (nI 2) dX16_line_21 (by decide) ?_
        refine gc_goto hG (tgt := 36) dX16_line_22 (by decide) ?_
        exact hj5 (nI 2) s2
      · refine gc_iload_n hG dX16_line_25 rfl rfl ?_
        refine gc_bipush hG (nI 115) dX16_line_26 (by decide) ?_
        refine gc_icmp_ne hG (tgt := 35) dX16_line_28 (by decide) ?_ ?_
        · refine gc_iconst hG (nI 1) dX16_line_31 (by decide) ?_
          refine gc_goto hG (tgt := 36) dX16_line_32 (by decide) ?_
          exact hj5 (nI 1) s2
        · refine gc_iconst hG (nI 0) dX16_line_35 (by decide) ?_
          exact hj5 (nI 0) s2
def fX16_reads_L4 (v0 : Nat) (kx : cS → Option ((Unit ⊕ Nat) × cS)) : Nat → cS → Option ((Unit ⊕ Nat) × cS)
  | 0, _ => none
  | k + 1, t =>
    gd (cK t v0 = 14) (
    letv (cI t 66 v0) (fun x3 =>
    gd (cK t v0 = 14) (
    letv (cI t 63 v0) (fun x4 =>
    if x3 < x4 then
      gd (cK t v0 = 14) (
      obx (fX16_need v0 (nI 59) t) (fun r5 s6 =>
        gd (cK s6 v0 = 14) (
        obx (fX16_line v0 s6) (fun r7 s8 =>
          fX16_reads_L4 v0 kx k s8
        ) (fun e9 s10 =>
          gd (cK s10 e9 = 15) (
          some (.inr e9, s10)
          )
        )
        )
      ) (fun e11 s12 =>
        gd (cK s12 e11 = 15) (
        some (.inr e11, s12)
        )
      )
      )
    else
      kx t
    )
    )
    )
    )
theorem mfX16_reads_L4 (v0 : Nat) (kx : cS → Option ((Unit ⊕ Nat) × cS)) (hkx : ∀  (t : cS), MO t (kx t)) : ∀ (k : Nat)  (t : cS), MO t (fX16_reads_L4 v0 kx k t) := by
  intro k
  induction k with
  | zero => intro t; exact mo_none
  | succ k ih =>
    intro t
    rw [fX16_reads_L4]
    refine mo_gd ?_
    refine mo_letv (fun _ => ?_)
    refine mo_gd ?_
    refine mo_letv (fun _ => ?_)
    refine mo_ite ?_ ?_
    · refine mo_gd ?_
      refine mo_obx (by apply mfX16_need) (fun _ _ => ?_) (fun _ _ => ?_)
      · refine mo_gd ?_
        refine mo_obx (by apply mfX16_line) (fun _ _ => ?_) (fun _ _ => ?_)
        · exact ih _
        · refine mo_gd ?_
          exact mo_some
      · refine mo_gd ?_
        exact mo_some
    · exact hkx _
set_option maxHeartbeats 4000000 in
theorem gfX16_reads_L4 {X : gCx} {Y : cY} {s0 : cS} {ad0 : Nat → Nat} (hC : cOk X Y RX16 cX16_reads 8) (hl : (gLn X).stackTraces = false) (hY : ∀ q, q < Y.2.2.2.2.size → ¬ Y.2.2.2.1 q) (hnL : gLoc X = 1) (hrt : gRet X = none) (hnm : X.2.2.2.2.2.2.2.2.1.name = "reads") (hT : gTab X = []) (hmd : (gSt X).methodNamed? yX16_reads = some (gMe X)) (v0 : Nat) (kx : cS → Option ((Unit ⊕ Nat) × cS)) (hkx : ∀  (t : cS), GC X Y (cM Y X 1 s0 ad0 rVx) (kx t) t 28 [] []) : ∀ (k : Nat)  (t : cS), GC X Y (cM Y X 1 s0 ad0 rVx) (fX16_reads_L4 v0 kx k t) t 4 [(0, .ref v0)] [] := by
  have hG := hC.1
  intro k
  induction k with
  | zero => intro t; exact gc_none
  | succ k ih =>
    intro t
    rw [fX16_reads_L4]
    refine gc_aload_n hG (v := .ref v0) (refV_a _) dX16_reads_4 rfl rfl ?_
    refine gc_gd (fun hk => ?_)
    refine gc_get hC (ci := 13) (j := 4) (v := .int (cI t 66 v0)) hk dX16_reads_5 rfl (by decide) in_X16 q1110 (fun _ h => h) rfl ?_
    refine gc_letv (fun x3 h_ => ?_)
    refine gc_aload_n hG (v := .ref v0) (refV_a _) dX16_reads_8 rfl rfl ?_
    refine gc_gd (fun hk => ?_)
    refine gc_get hC (ci := 13) (j := 1) (v := .int (cI t 63 v0)) hk dX16_reads_9 rfl (by decide) in_X16 q1106 (fun _ h => h) rfl ?_
    refine gc_letv (fun x4 h_ => ?_)
    refine gc_icmp_ge hG (tgt := 28) dX16_reads_12 (by decide) ?_ ?_
    · refine gc_aload_n hG (v := .ref v0) (refV_a _) dX16_reads_15 rfl rfl ?_
      refine gc_bipush hG (nI 59) dX16_reads_16 (by decide) ?_
      refine gc_gd (fun hk => ?_)
      refine gc_callV (f := fX16_need v0 (nI 59) t) (As := [.int (nI 59)]) (rest := []) (n := 1) (d' := 5) (b := v0) hC hnL (wX16_need (gLn X) Y hl hY v0 (nI 59) t) hk (ci := 13) rfl dX16_reads_18 q1161 q1163 qs27 q102 q1164 ⟨by decide +kernel, by decide +kernel⟩ rfl (by decide) (by decide) (Nat.le_of_ble_eq_true rfl) (kn_Vx (fun r5 s6 => ?_)) (kx_Vx (fun e11 s12 => ?_))
      · refine gc_aload_n hG (v := .ref v0) (refV_a _) dX16_reads_21 rfl rfl ?_
        refine gc_gd (fun hk => ?_)
        refine gc_callV (f := fX16_line v0 s6) (As := []) (rest := []) (n := 0) (d' := 7) (b := v0) hC hnL (wX16_line (gLn X) Y hl hY v0 s6) hk (ci := 13) rfl dX16_reads_22 q1126 q1128 qs23 q102 q1129 ⟨by decide +kernel, by decide +kernel⟩ rfl (by decide) (by decide) (Nat.le_of_ble_eq_true rfl) (kn_Vx (fun r7 s8 => ?_)) (kx_Vx (fun e9 s10 => ?_))
        · refine gc_goto hG (tgt := 4) dX16_reads_25 (by decide) ?_
          exact ih s8
        · refine gx_gd (fun hk => ?_)
          exact gx_outR hC hk (ci := 14) rfl rfl (by rw [hT]; intro z hz; cases hz)
      · refine gx_gd (fun hk => ?_)
        exact gx_outR hC hk (ci := 14) rfl rfl (by rw [hT]; intro z hz; cases hz)
    · refine gc_sub [] rfl ?_
      exact hkx t
def fX16_reads (v0 : Nat) (t : cS) : Option ((Unit ⊕ Nat) × cS) :=
  gd (cK t v0 = 14) (
  obx (fX16_line v0 t) (fun r1 s2 =>
    fX16_reads_L4 v0 (fun  (t13 : cS) =>
      (some ((.inl ()), t13))
      ) FU s2
  ) (fun e14 s15 =>
    gd (cK s15 e14 = 15) (
    some (.inr e14, s15)
    )
  )
  )
theorem mfX16_reads (v0 : Nat) (t : cS) : MO t (fX16_reads v0 t) := by
  unfold fX16_reads
  refine mo_gd ?_
  refine mo_obx (by apply mfX16_line) (fun _ _ => ?_) (fun _ _ => ?_)
  · refine mfX16_reads_L4 _ _ (fun _ => ?_) _ _
    exact mo_some
  · refine mo_gd ?_
    exact mo_some
set_option maxHeartbeats 4000000 in
theorem wX16_reads (l : Launch) (Y : cY) (hl : l.stackTraces = false) (hY : ∀ q, q < Y.2.2.2.2.size → ¬ Y.2.2.2.1 q) (v0 : Nat) (t : cS) : cFn l Y yX16_reads (ws_ yX16_reads cX16_reads 1 none) 8 [.ref v0] t (fX16_reads v0 t) rVx := by
  refine cmet (av := [.ref v0]) (mfX16_reads v0 t) hl hY (by decide +kernel) (lg_le (List.forall_mem_cons.mpr ⟨rfl, fun _ h => absurd h List.not_mem_nil⟩) (Nat.le_of_ble_eq_true rfl)) (lv_args_cat (List.forall_mem_cons.mpr ⟨rfl, fun _ h => absurd h List.not_mem_nil⟩)) ?_
  intro X ad0 hln hC hnL hrt hnm hT hmd
  subst hln
  have hG := hC.1
  rw [lv_args_s (List.forall_mem_cons.mpr ⟨rfl, fun _ h => absurd h List.not_mem_nil⟩)]
  show GC X Y (cM Y X 1 t ad0 rVx) _ t 0 [(0, .ref v0)] []
  unfold fX16_reads
  refine gc_aload_n hG (v := .ref v0) (refV_a _) dX16_reads_0 rfl rfl ?_
  refine gc_gd (fun hk => ?_)
  refine gc_callV (f := fX16_line v0 t) (As := []) (rest := []) (n := 0) (d' := 7) (b := v0) hC hnL (wX16_line (gLn X) Y hl hY v0 t) hk (ci := 13) rfl dX16_reads_1 q1126 q1128 qs23 q102 q1129 ⟨by decide +kernel, by decide +kernel⟩ rfl (by decide) (by decide) (Nat.le_of_ble_eq_true rfl) (kn_Vx (fun r1 s2 => ?_)) (kx_Vx (fun e14 s15 => ?_))
  · refine gfX16_reads_L4 (s0 := t) (ad0 := ad0) hC hl hY hnL hrt hnm hT hmd v0 _ (fun t13 => ?_) FU s2
    exact gc_vret hC hrt rfl dX16_reads_28
  · refine gx_gd (fun hk => ?_)
    exact gx_outR hC hk (ci := 14) rfl rfl (by rw [hT]; intro z hz; cases hz)
def fX0_script (v0 : Nat) (t : cS) : Option (Int32 × cS) :=
  letv (sN t 14 0 5) (fun s1 =>
  gd (cK s1 v0 = 1) (
  letv (cR s1 3 v0) (fun x2 =>
  gd (cK s1 v0 = 1) (
  letv (cI s1 4 v0) (fun x3 =>
  ob (fX16_init (cn t) x2 x3 s1) (fun r4 s5 =>
  gd (cK s5 v0 = 1) (
  letv (cR s5 1 v0) (fun x6 =>
  rv x6 (fun a7 =>
  gd (cK s5 a7 = 2) (
  ob (fX1_copy a7 s5) (fun r8 s9 =>
  gd (cK s9 (cn t) = 14) (
  obx (fX16_reads (cn t) s9) (fun r10 s11 =>
    gd (cK s11 v0 = 1) (
    letv (cR s11 1 v0) (fun x12 =>
    gd (cK s11 (cn t) = 14) (
    obx (fX16_does (cn t) x12 s11) (fun r13 s14 =>
      gd (cK s14 (cn t) = 14) (
      letv (cI s14 65 (cn t)) (fun x15 =>
      gd (cK s14 v0 = 1) (
      letv (sI s14 4 v0 (nI 0)) (fun s16 =>
      if (nI 1) = 0 then
        gd (cK s16 v0 = 1) (
        letv (sR s16 1 v0 r8) (fun s17 =>
        (some (x15, s17))
        )
        )
      else
        (some (x15, s16))
      )
      )
      )
      )
    ) (fun e18 s19 =>
      gd (cK s19 e18 = 15) (
      gd (cK s19 e18 = 15) (
      letv (cI s19 67 e18) (fun x20 =>
      gd (cK s19 v0 = 1) (
      letv (sI s19 4 v0 (nI 0)) (fun s21 =>
      if (nI 0) = 0 then
        gd (cK s21 v0 = 1) (
        letv (sR s21 1 v0 r8) (fun s22 =>
        (some (x20, s22))
        )
        )
      else
        (some (x20, s21))
      )
      )
      )
      )
      )
    )
    )
    )
    )
  ) (fun e23 s24 =>
    gd (cK s24 e23 = 15) (
    gd (cK s24 e23 = 15) (
    letv (cI s24 67 e23) (fun x25 =>
    gd (cK s24 v0 = 1) (
    letv (sI s24 4 v0 (nI 0)) (fun s26 =>
    if (nI 0) = 0 then
      gd (cK s26 v0 = 1) (
      letv (sR s26 1 v0 r8) (fun s27 =>
      (some (x25, s27))
      )
      )
    else
      (some (x25, s26))
    )
    )
    )
    )
    )
  )
  )
  )
  )
  )
  )
  )
  )
  )
  )
  )
  )
  )
theorem mfX0_script (v0 : Nat) (t : cS) : MO t (fX0_script v0 t) := by
  unfold fX0_script
  refine mo_letS cMo_sN (fun _ => ?_)
  refine mo_gd ?_
  refine mo_letv (fun _ => ?_)
  refine mo_gd ?_
  refine mo_letv (fun _ => ?_)
  refine mo_ob (by apply mfX16_init) (fun _ _ => ?_)
  refine mo_gd ?_
  refine mo_letv (fun _ => ?_)
  refine mo_rv (fun _ => ?_)
  refine mo_gd ?_
  refine mo_ob (by apply mfX1_copy) (fun _ _ => ?_)
  refine mo_gd ?_
  refine mo_obx (by apply mfX16_reads) (fun _ _ => ?_) (fun _ _ => ?_)
  · refine mo_gd ?_
    refine mo_letv (fun _ => ?_)
    refine mo_gd ?_
    refine mo_obx (by apply mfX16_does) (fun _ _ => ?_) (fun _ _ => ?_)
    · refine mo_gd ?_
      refine mo_letv (fun _ => ?_)
      refine mo_gd ?_
      refine mo_letS cMo_sI (fun _ => ?_)
      refine mo_ite ?_ ?_
      · refine mo_gd ?_
        refine mo_letS cMo_sR (fun _ => ?_)
        exact mo_some
      · exact mo_some
    · refine mo_gd ?_
      refine mo_gd ?_
      refine mo_letv (fun _ => ?_)
      refine mo_gd ?_
      refine mo_letS cMo_sI (fun _ => ?_)
      refine mo_ite ?_ ?_
      · refine mo_gd ?_
        refine mo_letS cMo_sR (fun _ => ?_)
        exact mo_some
      · exact mo_some
  · refine mo_gd ?_
    refine mo_gd ?_
    refine mo_letv (fun _ => ?_)
    refine mo_gd ?_
    refine mo_letS cMo_sI (fun _ => ?_)
    refine mo_ite ?_ ?_
    · refine mo_gd ?_
      refine mo_letS cMo_sR (fun _ => ?_)
      exact mo_some
    · exact mo_some
set_option maxHeartbeats 4000000 in
theorem wX0_script (l : Launch) (Y : cY) (hl : l.stackTraces = false) (hY : ∀ q, q < Y.2.2.2.2.size → ¬ Y.2.2.2.1 q) (v0 : Nat) (t : cS) : cFn l Y yX0_script (wsW_ yX0_script cX0_script 7 (some .int) [(26, 46, 63, 259), (26, 46, 89, 0), (63, 72, 89, 0), (89, 91, 89, 0)]) 41 [.ref v0] t (fX0_script v0 t) rI := by
  refine cmetW (av := [.ref v0]) (mfX0_script v0 t) hl hY (by decide +kernel) (lg_le (List.forall_mem_cons.mpr ⟨rfl, fun _ h => absurd h List.not_mem_nil⟩) (Nat.le_of_ble_eq_true rfl)) (lv_args_cat (List.forall_mem_cons.mpr ⟨rfl, fun _ h => absurd h List.not_mem_nil⟩)) ?_
  intro X ad0 hln hC hnL hrt hnm hT hmd
  subst hln
  have hG := hC.1
  rw [lv_args_s (List.forall_mem_cons.mpr ⟨rfl, fun _ h => absurd h List.not_mem_nil⟩)]
  show GC X Y (cM Y X 7 t ad0 rI) _ t 0 [(0, .ref v0)] []
  unfold fX0_script
  refine gc_new hC (ci := 13) tyX16 tyX16_ok rfl in_X16 dX0_script_0 q1099 q1100 q102 (by decide +kernel) ?_
  refine gc_letS (fun s1 => ?_)
  refine gc_dup hG dX0_script_3 rfl ?_
  refine gc_aload_n hG (v := .ref v0) (refV_a _) dX0_script_4 rfl rfl ?_
  refine gc_gd (fun hk => ?_)
  refine gc_get hC (ci := 0) (j := 2) (v := vr (cR s1 3 v0)) hk dX0_script_5 rfl (by decide) in_X0 q226 (fun _ h => h) rfl ?_
  refine gc_letr (fun x2 h_ => ?_)
  refine gc_aload_n hG (v := .ref v0) (refV_a _) dX0_script_8 rfl rfl ?_
  refine gc_gd (fun hk => ?_)
  refine gc_get hC (ci := 0) (j := 3) (v := .int (cI s1 4 v0)) hk dX0_script_9 rfl (by decide) in_X0 q227 (fun _ h => h) rfl ?_
  refine gc_letv (fun x3 h_ => ?_)
  refine gc_callI (f := fX16_init (cn t) x2 x3 s1) (As := [vr x2, .int x3]) (rest := [.ref (cn t)]) (n := 2) (d' := 1) (b := (cn t)) hC hnL (wX16_init (gLn X) Y hl hY (cn t) x2 x3 s1) dX0_script_12 q1101 q1102 q102 q1103 ⟨by decide +kernel, by decide +kernel⟩ rfl rfl (by decide) (by decide) (Nat.le_of_ble_eq_true rfl) (kn_V (fun r4 s5 => ?_)) kx_V
  refine gc_astore_n hG (refV_a _) dX0_script_15 rfl (Nat.le_of_ble_eq_true rfl) (lv' := [(0, _), (1, _)]) rfl ?_
  refine gc_aload_n hG (v := .ref v0) (refV_a _) dX0_script_16 rfl rfl ?_
  refine gc_gd (fun hk => ?_)
  refine gc_get hC (ci := 0) (j := 0) (v := vr (cR s5 1 v0)) hk dX0_script_17 rfl (by decide) in_X0 q224 (fun _ h => h) rfl ?_
  refine gc_letr (fun x6 h_ => ?_)
  refine gc_rv (fun a7 h_ => ?_)
  subst h_
  refine gc_gd (fun hk => ?_)
  refine gc_callV (f := fX1_copy a7 s5) (As := []) (rest := []) (n := 0) (d' := 5) (b := a7) hC hnL (wX1_copy (gLn X) Y hl hY a7 s5) hk (ci := 1) rfl dX0_script_20 q1037 q1038 q1039 q75 q1040 ⟨by decide +kernel, by decide +kernel⟩ rfl (by decide) (by decide) (Nat.le_of_ble_eq_true rfl) (kn_R (fun r8 s9 => ?_)) kx_R
  refine gc_astore_n hG (refV_x _) dX0_script_23 rfl (Nat.le_of_ble_eq_true rfl) (lv' := [(0, _), (1, _), (2, _)]) rfl ?_
  refine gc_iconst hG (nI 0) dX0_script_24 (by decide) ?_
  refine gc_istore_n hG dX0_script_25 rfl (Nat.le_of_ble_eq_true rfl) (lv' := [(0, _), (1, _), (2, _), (3, _)]) rfl ?_
  refine gc_aload_n hG (v := .ref (cn t)) (refV_a _) dX0_script_26 rfl rfl ?_
  refine gc_gd (fun hk => ?_)
  refine gc_callV (f := fX16_reads (cn t) s9) (As := []) (rest := []) (n := 0) (d' := 8) (b := (cn t)) hC hnL (wX16_reads (gLn X) Y hl hY (cn t) s9) hk (ci := 13) rfl dX0_script_27 q1122 q1123 q1124 q102 q1125 ⟨by decide +kernel, by decide +kernel⟩ rfl (by decide) (by decide) (Nat.le_of_ble_eq_true rfl) (kn_Vx (fun r10 s11 => ?_)) (kx_Vx (fun e23 s24 => ?_))
  · refine gc_aload_n hG (v := .ref (cn t)) (refV_a _) dX0_script_30 rfl rfl ?_
    refine gc_aload_n hG (v := .ref v0) (refV_a _) dX0_script_31 rfl rfl ?_
    refine gc_gd (fun hk => ?_)
    refine gc_get hC (ci := 0) (j := 0) (v := vr (cR s11 1 v0)) hk dX0_script_32 rfl (by decide) in_X0 q224 (fun _ h => h) rfl ?_
    refine gc_letr (fun x12 h_ => ?_)
    refine gc_gd (fun hk => ?_)
    refine gc_callV (f := fX16_does (cn t) x12 s11) (As := [vr x12]) (rest := []) (n := 1) (d' := 40) (b := (cn t)) hC hnL (wX16_does (gLn X) Y hl hY (cn t) x12 s11) hk (ci := 13) rfl dX0_script_35 q1170 q1171 q1172 q102 q1173 ⟨by decide +kernel, by decide +kernel⟩ rfl (by decide) (by decide) (Nat.le_of_ble_eq_true rfl) (kn_Vx (fun r13 s14 => ?_)) (kx_Vx (fun e18 s19 => ?_))
    · refine gc_iconst hG (nI 1) dX0_script_38 (by decide) ?_
      refine gc_istore_n hG dX0_script_39 rfl (Nat.le_of_ble_eq_true rfl) (lv' := [(0, _), (1, _), (2, _), (3, _)]) rfl ?_
      refine gc_aload_n hG (v := .ref (cn t)) (refV_a _) dX0_script_40 rfl rfl ?_
      refine gc_gd (fun hk => ?_)
      refine gc_getN hC (ci := 13) (j := 3) (v := .int (cI s14 65 (cn t))) hk dX0_script_41 rfl (by decide) in_X16 q1109 (fun _ h => h) rfl ?_
      refine gc_letv (fun x15 h_ => ?_)
      refine gc_istore hG dX0_script_44 (Nat.le_of_ble_eq_true rfl) (lv' := [(0, _), (1, _), (2, _), (3, _), (4, _)]) rfl ?_
      refine gc_aload_n hG (v := .ref v0) (refV_a _) dX0_script_46 rfl rfl ?_
      refine gc_iconst hG (nI 0) dX0_script_47 (by decide) ?_
      refine gc_gd (fun hk => ?_)
      have pt := pt_I (s := s14) (f := 4) (a := v0) (x := (nI 0)) rfl
      refine gc_put hC tyX0 tyX0_ok nmX0 hk dX0_script_48 (ci := 0) (j := 3) (Or.inl (by decide)) rfl (by decide) in_X0 q227 (fun _ h => h) rfl (tyX0_ok 3 (by decide)) (fun _ => rfl) (fun _ => rfl) pt.1.1 pt.1.2.1 pt.1.2.2.1 pt.1.2.2.2 pt.2.1 pt.2.2.1 pt.2.2.2 ?_
      refine gc_letS (fun s16 => ?_)
      refine gc_iload_n hG dX0_script_51 rfl rfl ?_
      refine gc_if_ne hG (tgt := 60) dX0_script_52 (by decide) ?_ ?_
      · refine gc_aload_n hG (v := .ref v0) (refV_a _) dX0_script_55 rfl rfl ?_
        refine gc_aload_n hG (v := vr r8) (refV_x _) dX0_script_56 rfl rfl ?_
        refine gc_gd (fun hk => ?_)
        have pt := pt_R (s := s16) (f := 1) (a := v0) (x := r8) rfl
        refine gc_put hC tyX0 tyX0_ok nmX0 hk dX0_script_57 (ci := 0) (j := 0) (Or.inl (by decide)) rfl (by decide) in_X0 q224 (fun _ h => h) rfl (tyX0_ok 0 (by decide)) (nar_o r8) (fit_o r8) pt.1.1 pt.1.2.1 pt.1.2.2.1 pt.1.2.2.2 pt.2.1 pt.2.2.1 pt.2.2.2 ?_
        refine gc_letS (fun s17 => ?_)
        refine gc_iload hG dX0_script_60 rfl ?_
        exact gc_iret hC hrt rfl rfl dX0_script_62
      · refine gc_iload hG dX0_script_60 rfl ?_
        exact gc_iret hC hrt rfl rfl dX0_script_62
    · refine gx_gd (fun hk => ?_)
      refine gx_catchR hC hk (ci := 14) rfl [] ((tableOf [(26, 46, 63, 259), (26, 46, 89, 0), (63, 72, 89, 0), (89, 91, 89, 0)])[0]) [(tableOf [(26, 46, 63, 259), (26, 46, 89, 0), (63, 72, 89, 0), (89, 91, 89, 0)])[1], (tableOf [(26, 46, 63, 259), (26, 46, 89, 0), (63, 72, 89, 0), (89, 91, 89, 0)])[2], (tableOf [(26, 46, 63, 259), (26, 46, 89, 0), (63, 72, 89, 0), (89, 91, 89, 0)])[3]] (by rw [hT]; rfl) (fun _ h => absurd h List.not_mem_nil) rfl (by decide) q1098 q1140 rfl ?_
      refine gc_astore hG (refV_a _) dX0_script_63 (Nat.le_of_ble_eq_true rfl) (lv' := [(0, _), (1, _), (2, _), (3, _), (4, _)]) rfl ?_
      refine gc_aload hG (v := .ref e18) (refV_a _) dX0_script_65 rfl ?_
      refine gc_gd (fun hk => ?_)
      refine gc_getN hC (ci := 14) (j := 6) (v := .int (cI s19 67 e18)) hk dX0_script_67 rfl (by decide) in_X17 q1152 (fun _ h => h) rfl ?_
      refine gc_letv (fun x20 h_ => ?_)
      refine gc_istore hG dX0_script_70 (Nat.le_of_ble_eq_true rfl) (lv' := [(0, _), (1, _), (2, _), (3, _), (4, _), (5, _)]) rfl ?_
      refine gc_aload_n hG (v := .ref v0) (refV_a _) dX0_script_72 rfl rfl ?_
      refine gc_iconst hG (nI 0) dX0_script_73 (by decide) ?_
      refine gc_gd (fun hk => ?_)
      have pt := pt_I (s := s19) (f := 4) (a := v0) (x := (nI 0)) rfl
      refine gc_put hC tyX0 tyX0_ok nmX0 hk dX0_script_74 (ci := 0) (j := 3) (Or.inl (by decide)) rfl (by decide) in_X0 q227 (fun _ h => h) rfl (tyX0_ok 3 (by decide)) (fun _ => rfl) (fun _ => rfl) pt.1.1 pt.1.2.1 pt.1.2.2.1 pt.1.2.2.2 pt.2.1 pt.2.2.1 pt.2.2.2 ?_
      refine gc_letS (fun s21 => ?_)
      refine gc_iload_n hG dX0_script_77 rfl rfl ?_
      refine gc_if_ne hG (tgt := 86) dX0_script_78 (by decide) ?_ ?_
      · refine gc_aload_n hG (v := .ref v0) (refV_a _) dX0_script_81 rfl rfl ?_
        refine gc_aload_n hG (v := vr r8) (refV_x _) dX0_script_82 rfl rfl ?_
        refine gc_gd (fun hk => ?_)
        have pt := pt_R (s := s21) (f := 1) (a := v0) (x := r8) rfl
        refine gc_put hC tyX0 tyX0_ok nmX0 hk dX0_script_83 (ci := 0) (j := 0) (Or.inl (by decide)) rfl (by decide) in_X0 q224 (fun _ h => h) rfl (tyX0_ok 0 (by decide)) (nar_o r8) (fit_o r8) pt.1.1 pt.1.2.1 pt.1.2.2.1 pt.1.2.2.2 pt.2.1 pt.2.2.1 pt.2.2.2 ?_
        refine gc_letS (fun s22 => ?_)
        refine gc_iload hG dX0_script_86 rfl ?_
        exact gc_iret hC hrt rfl rfl dX0_script_88
      · refine gc_iload hG dX0_script_86 rfl ?_
        exact gc_iret hC hrt rfl rfl dX0_script_88
  · refine gx_gd (fun hk => ?_)
    refine gx_catchR hC hk (ci := 14) rfl [] ((tableOf [(26, 46, 63, 259), (26, 46, 89, 0), (63, 72, 89, 0), (89, 91, 89, 0)])[0]) [(tableOf [(26, 46, 63, 259), (26, 46, 89, 0), (63, 72, 89, 0), (89, 91, 89, 0)])[1], (tableOf [(26, 46, 63, 259), (26, 46, 89, 0), (63, 72, 89, 0), (89, 91, 89, 0)])[2], (tableOf [(26, 46, 63, 259), (26, 46, 89, 0), (63, 72, 89, 0), (89, 91, 89, 0)])[3]] (by rw [hT]; rfl) (fun _ h => absurd h List.not_mem_nil) rfl (by decide) q1098 q1140 rfl ?_
    refine gc_astore hG (refV_a _) dX0_script_63 (Nat.le_of_ble_eq_true rfl) (lv' := [(0, _), (1, _), (2, _), (3, _), (4, _)]) rfl ?_
    refine gc_aload hG (v := .ref e23) (refV_a _) dX0_script_65 rfl ?_
    refine gc_gd (fun hk => ?_)
    refine gc_getN hC (ci := 14) (j := 6) (v := .int (cI s24 67 e23)) hk dX0_script_67 rfl (by decide) in_X17 q1152 (fun _ h => h) rfl ?_
    refine gc_letv (fun x25 h_ => ?_)
    refine gc_istore hG dX0_script_70 (Nat.le_of_ble_eq_true rfl) (lv' := [(0, _), (1, _), (2, _), (3, _), (4, _), (5, _)]) rfl ?_
    refine gc_aload_n hG (v := .ref v0) (refV_a _) dX0_script_72 rfl rfl ?_
    refine gc_iconst hG (nI 0) dX0_script_73 (by decide) ?_
    refine gc_gd (fun hk => ?_)
    have pt := pt_I (s := s24) (f := 4) (a := v0) (x := (nI 0)) rfl
    refine gc_put hC tyX0 tyX0_ok nmX0 hk dX0_script_74 (ci := 0) (j := 3) (Or.inl (by decide)) rfl (by decide) in_X0 q227 (fun _ h => h) rfl (tyX0_ok 3 (by decide)) (fun _ => rfl) (fun _ => rfl) pt.1.1 pt.1.2.1 pt.1.2.2.1 pt.1.2.2.2 pt.2.1 pt.2.2.1 pt.2.2.2 ?_
    refine gc_letS (fun s26 => ?_)
    refine gc_iload_n hG dX0_script_77 rfl rfl ?_
    refine gc_if_ne hG (tgt := 86) dX0_script_78 (by decide) ?_ ?_
    · refine gc_aload_n hG (v := .ref v0) (refV_a _) dX0_script_81 rfl rfl ?_
      refine gc_aload_n hG (v := vr r8) (refV_x _) dX0_script_82 rfl rfl ?_
      refine gc_gd (fun hk => ?_)
      have pt := pt_R (s := s26) (f := 1) (a := v0) (x := r8) rfl
      refine gc_put hC tyX0 tyX0_ok nmX0 hk dX0_script_83 (ci := 0) (j := 0) (Or.inl (by decide)) rfl (by decide) in_X0 q224 (fun _ h => h) rfl (tyX0_ok 0 (by decide)) (nar_o r8) (fit_o r8) pt.1.1 pt.1.2.1 pt.1.2.2.1 pt.1.2.2.2 pt.2.1 pt.2.2.1 pt.2.2.2 ?_
      refine gc_letS (fun s27 => ?_)
      refine gc_iload hG dX0_script_86 rfl ?_
      exact gc_iret hC hrt rfl rfl dX0_script_88
    · refine gc_iload hG dX0_script_86 rfl ?_
      exact gc_iret hC hrt rfl rfl dX0_script_88
def fX0_drawn_L35 (v0 : Nat) (v1 : Int32) (v2 : Int32) (kx : cS → Option (Int32 × cS)) : Nat → Int32 → cS → Option (Int32 × cS)
  | 0, _, _ => none
  | k + 1, v3, t =>
    if v3 < v1 then
      gd (cK t v0 = 1) (
      letv (cR t 1 v0) (fun x9 =>
      gd (cK t v0 = 1) (
      letv (cR t 1 v0) (fun x10 =>
      rv x10 (fun a11 =>
      gd (cK t a11 = 2) (
      letv (cI t 13 a11) (fun x12 =>
      rv x9 (fun a13 =>
      gd (cK t a13 = 2) (
      letv (sI t 13 a13 ((x12 * (nI 1103515245)) + (nI 12345))) (fun s14 =>
      gd (cK s14 v0 = 1) (
      letv (cR s14 1 v0) (fun x15 =>
      rv x15 (fun a16 =>
      gd (cK s14 a16 = 2) (
      letv (cI s14 13 a16) (fun x17 =>
      letv (((iushr32 x17 (nI 16)) &&& (nI 32767))) (fun y18 =>
      gd (cK s14 v0 = 1) (
      letv (cR s14 1 v0) (fun x19 =>
      gd (cK s14 v0 = 1) (
      letv (cR s14 1 v0) (fun x20 =>
      rv x20 (fun a21 =>
      gd (cK s14 a21 = 2) (
      letv (cR s14 6 a21) (fun x22 =>
      gd (cK s14 v0 = 1) (
      letv (cR s14 1 v0) (fun x23 =>
      rv x23 (fun a24 =>
      gd (cK s14 a24 = 2) (
      letv (cI s14 7 a24) (fun x25 =>
      gd (¬ x25 = 0) (
      rv x22 (fun a26 =>
      gd (cK s14 a26 = 23 ∧ cIn s14 a26 (irm y18 x25)) (
      letv (cR s14 (er ((irm y18 x25)).toNatClampNeg) a26) (fun x27 =>
      letv (sN s14 6 0 2) (fun s28 =>
      ob (fX7_init (cn s14) (-1 : Int32) ((irm (y18 / (nI 12)) (nI 199)) - (nI 99)) s28) (fun r29 s30 =>
      rv x19 (fun a31 =>
      gd (cK s30 a31 = 2) (
      ob (fX1_sends a31 x27 (some (cn s14)) s30) (fun r32 s33 =>
      letv (v3 + (nI 1)) (fun y34 =>
      fX0_drawn_L35 v0 v1 v2 kx k y34 s33
      )
      )
      )
      )
      )
      )
      )
      )
      )
      )
      )
      )
      )
      )
      )
      )
      )
      )
      )
      )
      )
      )
      )
      )
      )
      )
      )
      )
      )
      )
      )
      )
      )
      )
      )
      )
      )
      )
    else
      kx t
theorem mfX0_drawn_L35 (v0 : Nat) (v1 : Int32) (v2 : Int32) (kx : cS → Option (Int32 × cS)) (hkx : ∀  (t : cS), MO t (kx t)) : ∀ (k : Nat) (v3 : Int32) (t : cS), MO t (fX0_drawn_L35 v0 v1 v2 kx k v3 t) := by
  intro k
  induction k with
  | zero => intro v3 t; exact mo_none
  | succ k ih =>
    intro v3 t
    rw [fX0_drawn_L35]
    refine mo_ite ?_ ?_
    · refine mo_gd ?_
      refine mo_letv (fun _ => ?_)
      refine mo_gd ?_
      refine mo_letv (fun _ => ?_)
      refine mo_rv (fun _ => ?_)
      refine mo_gd ?_
      refine mo_letv (fun _ => ?_)
      refine mo_rv (fun _ => ?_)
      refine mo_gd ?_
      refine mo_letS cMo_sI (fun _ => ?_)
      refine mo_gd ?_
      refine mo_letv (fun _ => ?_)
      refine mo_rv (fun _ => ?_)
      refine mo_gd ?_
      refine mo_letv (fun _ => ?_)
      refine mo_letv (fun _ => ?_)
      refine mo_gd ?_
      refine mo_letv (fun _ => ?_)
      refine mo_gd ?_
      refine mo_letv (fun _ => ?_)
      refine mo_rv (fun _ => ?_)
      refine mo_gd ?_
      refine mo_letv (fun _ => ?_)
      refine mo_gd ?_
      refine mo_letv (fun _ => ?_)
      refine mo_rv (fun _ => ?_)
      refine mo_gd ?_
      refine mo_letv (fun _ => ?_)
      refine mo_gd ?_
      refine mo_rv (fun _ => ?_)
      refine mo_gd ?_
      refine mo_letv (fun _ => ?_)
      refine mo_letS cMo_sN (fun _ => ?_)
      refine mo_ob (by apply mfX7_init) (fun _ _ => ?_)
      refine mo_rv (fun _ => ?_)
      refine mo_gd ?_
      refine mo_ob (by apply mfX1_sends) (fun _ _ => ?_)
      refine mo_letv (fun _ => ?_)
      exact ih _ _
    · exact hkx _
set_option maxHeartbeats 4000000 in
theorem gfX0_drawn_L35 {X : gCx} {Y : cY} {s0 : cS} {ad0 : Nat → Nat} (hC : cOk X Y RX0 cX0_drawn 4) (hl : (gLn X).stackTraces = false) (hY : ∀ q, q < Y.2.2.2.2.size → ¬ Y.2.2.2.1 q) (hnL : gLoc X = 5) (hrt : gRet X = (some .int)) (hnm : X.2.2.2.2.2.2.2.2.1.name = "drawn") (hT : gTab X = []) (hmd : (gSt X).methodNamed? yX0_drawn = some (gMe X)) (v0 : Nat) (v1 : Int32) (v2 : Int32) (kx : cS → Option (Int32 × cS)) (hkx : ∀  (t : cS), GC X Y (cM Y X 5 s0 ad0 rI) (kx t) t 130 [(0, .ref v0), (2, .int v2)] []) : ∀ (k : Nat) (v3 : Int32) (t : cS), GC X Y (cM Y X 5 s0 ad0 rI) (fX0_drawn_L35 v0 v1 v2 kx k v3 t) t 35 [(0, .ref v0), (1, .int v1), (2, .int v2), (3, .int v3)] [] := by
  have hG := hC.1
  intro k
  induction k with
  | zero => intro v3 t; exact gc_none
  | succ k ih =>
    intro v3 t
    rw [fX0_drawn_L35]
    refine gc_iload_n hG dX0_drawn_35 rfl rfl ?_
    refine gc_iload_n hG dX0_drawn_36 rfl rfl ?_
    refine gc_icmp_ge hG (tgt := 130) dX0_drawn_37 (by decide) ?_ ?_
    · refine gc_aload_n hG (v := .ref v0) (refV_a _) dX0_drawn_40 rfl rfl ?_
      refine gc_gd (fun hk => ?_)
      refine gc_get hC (ci := 0) (j := 0) (v := vr (cR t 1 v0)) hk dX0_drawn_41 rfl (by decide) in_X0 q224 (fun _ h => h) rfl ?_
      refine gc_letr (fun x9 h_ => ?_)
      refine gc_aload_n hG (v := .ref v0) (refV_a _) dX0_drawn_44 rfl rfl ?_
      refine gc_gd (fun hk => ?_)
      refine gc_get hC (ci := 0) (j := 0) (v := vr (cR t 1 v0)) hk dX0_drawn_45 rfl (by decide) in_X0 q224 (fun _ h => h) rfl ?_
      refine gc_letr (fun x10 h_ => ?_)
      refine gc_rv (fun a11 h_ => ?_)
      subst h_
      refine gc_gd (fun hk => ?_)
      refine gc_getN hC (ci := 1) (j := 7) (v := .int (cI t 13 a11)) hk dX0_drawn_48 rfl (by decide) in_X1 q177 (fun _ h => h) rfl ?_
      refine gc_letv (fun x12 h_ => ?_)
      refine gc_ldcw hG (nI 1103515245) dX0_drawn_51 q1188 ?_
      refine gc_imul hG dX0_drawn_54 ?_
      refine gc_sipush hG (nI 12345) dX0_drawn_55 (by decide) ?_
      refine gc_iadd hG dX0_drawn_58 ?_
      refine gc_rv (fun a13 h_ => ?_)
      subst h_
      refine gc_gd (fun hk => ?_)
      have pt := pt_I (s := t) (f := 13) (a := a13) (x := ((x12 * (nI 1103515245)) + (nI 12345))) rfl
      refine gc_putN hC tyX1 tyX1_ok nmX1 hk dX0_drawn_59 (ci := 1) (j := 7) (Or.inl (by decide)) rfl (by decide) in_X1 q177 (fun _ h => h) rfl (tyX1_ok 7 (by decide)) (fun _ => rfl) (fun _ => rfl) pt.1.1 pt.1.2.1 pt.1.2.2.1 pt.1.2.2.2 pt.2.1 pt.2.2.1 pt.2.2.2 ?_
      refine gc_letS (fun s14 => ?_)
      refine gc_aload_n hG (v := .ref v0) (refV_a _) dX0_drawn_62 rfl rfl ?_
      refine gc_gd (fun hk => ?_)
      refine gc_get hC (ci := 0) (j := 0) (v := vr (cR s14 1 v0)) hk dX0_drawn_63 rfl (by decide) in_X0 q224 (fun _ h => h) rfl ?_
      refine gc_letr (fun x15 h_ => ?_)
      refine gc_rv (fun a16 h_ => ?_)
      subst h_
      refine gc_gd (fun hk => ?_)
      refine gc_getN hC (ci := 1) (j := 7) (v := .int (cI s14 13 a16)) hk dX0_drawn_66 rfl (by decide) in_X1 q177 (fun _ h => h) rfl ?_
      refine gc_letv (fun x17 h_ => ?_)
      refine gc_bipush hG (nI 16) dX0_drawn_69 (by decide) ?_
      refine gc_iushr hG dX0_drawn_71 ?_
      refine gc_sipush hG (nI 32767) dX0_drawn_72 (by decide) ?_
      refine gc_iand hG dX0_drawn_75 ?_
      refine gc_letv (fun y18 hy18 => ?_)
      refine gc_istore hG dX0_drawn_76 (Nat.le_of_ble_eq_true rfl) (lv' := [(0, _), (1, _), (2, _), (3, _), (4, _)]) rfl ?_
      refine gc_aload_n hG (v := .ref v0) (refV_a _) dX0_drawn_78 rfl rfl ?_
      refine gc_gd (fun hk => ?_)
      refine gc_get hC (ci := 0) (j := 0) (v := vr (cR s14 1 v0)) hk dX0_drawn_79 rfl (by decide) in_X0 q224 (fun _ h => h) rfl ?_
      refine gc_letr (fun x19 h_ => ?_)
      refine gc_aload_n hG (v := .ref v0) (refV_a _) dX0_drawn_82 rfl rfl ?_
      refine gc_gd (fun hk => ?_)
      refine gc_get hC (ci := 0) (j := 0) (v := vr (cR s14 1 v0)) hk dX0_drawn_83 rfl (by decide) in_X0 q224 (fun _ h => h) rfl ?_
      refine gc_letr (fun x20 h_ => ?_)
      refine gc_rv (fun a21 h_ => ?_)
      subst h_
      refine gc_gd (fun hk => ?_)
      refine gc_getN hC (ci := 1) (j := 0) (v := vr (cR s14 6 a21)) hk dX0_drawn_86 rfl (by decide) in_X1 q160 (fun _ h => h) rfl ?_
      refine gc_letr (fun x22 h_ => ?_)
      refine gc_iload hG dX0_drawn_89 rfl ?_
      refine gc_aload_n hG (v := .ref v0) (refV_a _) dX0_drawn_91 rfl rfl ?_
      refine gc_gd (fun hk => ?_)
      refine gc_get hC (ci := 0) (j := 0) (v := vr (cR s14 1 v0)) hk dX0_drawn_92 rfl (by decide) in_X0 q224 (fun _ h => h) rfl ?_
      refine gc_letr (fun x23 h_ => ?_)
      refine gc_rv (fun a24 h_ => ?_)
      subst h_
      refine gc_gd (fun hk => ?_)
      refine gc_getN hC (ci := 1) (j := 1) (v := .int (cI s14 7 a24)) hk dX0_drawn_95 rfl (by decide) in_X1 q164 (fun _ h => h) rfl ?_
      refine gc_letv (fun x25 h_ => ?_)
      refine gc_gd (fun hnz => ?_)
      refine gc_irem hG dX0_drawn_98 hnz ?_
      refine gc_rv (fun a26 h_ => ?_)
      subst h_
      refine gc_gd (fun hk => ?_)
      refine gc_aald hC hk.1 (by decide) (by decide) (t0 := 3) rfl hk.2 dX0_drawn_99 ?_
      refine gc_letr (fun x27 h_ => ?_)
      refine gc_new hC (ci := 5) tyX7 tyX7_ok rfl in_X7 dX0_drawn_100 q371 q372 q81 (by decide +kernel) ?_
      refine gc_letS (fun s28 => ?_)
      refine gc_dup hG dX0_drawn_103 rfl ?_
      refine gc_iconst hG (-1 : Int32) dX0_drawn_104 (by decide) ?_
      refine gc_iload hG dX0_drawn_105 rfl ?_
      refine gc_bipush hG (nI 12) dX0_drawn_107 (by decide) ?_
      refine gc_idiv hG dX0_drawn_109 (by decide) ?_
      refine gc_sipush hG (nI 199) dX0_drawn_110 (by decide) ?_
      refine gc_irem hG dX0_drawn_113 (by decide) ?_
      refine gc_bipush hG (nI 99) dX0_drawn_114 (by decide) ?_
      refine gc_isub hG dX0_drawn_116 ?_
      refine gc_callI (f := fX7_init (cn s14) (-1 : Int32) ((irm (y18 / (nI 12)) (nI 199)) - (nI 99)) s28) (As := [.int (-1 : Int32), .int ((irm (y18 / (nI 12)) (nI 199)) - (nI 99))]) (rest := [.ref (cn s14), vr x27, vr x19]) (n := 2) (d' := 2) (b := (cn s14)) hC hnL (wX7_init (gLn X) Y hl hY (cn s14) (-1 : Int32) ((irm (y18 / (nI 12)) (nI 199)) - (nI 99)) s28) dX0_drawn_117 q373 q374 q81 q375 ⟨by decide +kernel, by decide +kernel⟩ rfl rfl (by decide) (by decide) (by simp [cat_vr, cat_r, cat_i, cat_n]) (kn_V (fun r29 s30 => ?_)) kx_V
      refine gc_rv (fun a31 h_ => ?_)
      subst h_
      refine gc_gd (fun hk => ?_)
      refine gc_callV (f := fX1_sends a31 x27 (some (cn s14)) s30) (As := [vr x27, .ref (cn s14)]) (rest := []) (n := 2) (d' := 3) (b := a31) hC hnL (wX1_sends (gLn X) Y hl hY a31 x27 (some (cn s14)) s30) hk (ci := 1) rfl dX0_drawn_120 q390 q391 q392 q75 q393 ⟨by decide +kernel, by decide +kernel⟩ rfl (by decide) (by decide) (Nat.le_of_ble_eq_true rfl) (kn_I (fun r32 s33 => ?_)) kx_I
      refine gc_pop hG dX0_drawn_123 rfl ?_
      refine gc_letiinc hG (c := (nI 1)) (lv' := fun y34 => [(0, .ref v0), (1, .int v1), (2, .int v2), (3, .int y34), (4, .int y18)]) dX0_drawn_124 rfl (by decide) (Nat.le_of_ble_eq_true rfl) (fun _ => rfl) (fun y34 => ?_)
      refine gc_goto hG (tgt := 35) dX0_drawn_127 (by decide) ?_
      refine gc_sub [0, 1, 2, 3] rfl ?_
      exact ih y34 s33
    · refine gc_sub [0, 2] rfl ?_
      exact hkx t
def fX0_drawn (v0 : Nat) (v1 : Int32) (t : cS) : Option (Int32 × cS) :=
  ob (fX0_within v1 (nI 1) (nI 40) t) (fun r1 s2 =>
  if r1 = 0 then
    (some ((-1 : Int32), s2))
  else
    gd (cK s2 v0 = 1) (
    letv (cR s2 1 v0) (fun x3 =>
    rv x3 (fun a4 =>
    gd (cK s2 a4 = 2) (
    letv (cI s2 7 a4) (fun x5 =>
    if x5 = 0 then
      (some ((-5 : Int32), s2))
    else
      gd (cK s2 v0 = 1) (
      letv (cR s2 1 v0) (fun x6 =>
      rv x6 (fun a7 =>
      gd (cK s2 a7 = 2) (
      letv (cI s2 11 a7) (fun x8 =>
      fX0_drawn_L35 v0 v1 x8 (fun  (t35 : cS) =>
        gd (cK t35 v0 = 1) (
        letv (cR t35 1 v0) (fun x36 =>
        rv x36 (fun a37 =>
        gd (cK t35 a37 = 2) (
        letv (cI t35 11 a37) (fun x38 =>
        (some (((x38 - x8)), t35))
        )
        )
        )
        )
        )
        ) FU (nI 0) s2
      )
      )
      )
      )
      )
    )
    )
    )
    )
    )
  )
theorem mfX0_drawn (v0 : Nat) (v1 : Int32) (t : cS) : MO t (fX0_drawn v0 v1 t) := by
  unfold fX0_drawn
  refine mo_ob (by apply mfX0_within) (fun _ _ => ?_)
  refine mo_ite ?_ ?_
  · exact mo_some
  · refine mo_gd ?_
    refine mo_letv (fun _ => ?_)
    refine mo_rv (fun _ => ?_)
    refine mo_gd ?_
    refine mo_letv (fun _ => ?_)
    refine mo_ite ?_ ?_
    · exact mo_some
    · refine mo_gd ?_
      refine mo_letv (fun _ => ?_)
      refine mo_rv (fun _ => ?_)
      refine mo_gd ?_
      refine mo_letv (fun _ => ?_)
      refine mfX0_drawn_L35 _ _ _ _ (fun _ => ?_) _ _ _
      refine mo_gd ?_
      refine mo_letv (fun _ => ?_)
      refine mo_rv (fun _ => ?_)
      refine mo_gd ?_
      refine mo_letv (fun _ => ?_)
      exact mo_some
set_option maxHeartbeats 4000000 in
theorem wX0_drawn (l : Launch) (Y : cY) (hl : l.stackTraces = false) (hY : ∀ q, q < Y.2.2.2.2.size → ¬ Y.2.2.2.1 q) (v0 : Nat) (v1 : Int32) (t : cS) : cFn l Y yX0_drawn (ws_ yX0_drawn cX0_drawn 5 (some .int)) 4 [.ref v0, .int v1] t (fX0_drawn v0 v1 t) rI := by
  refine cmet (av := [.ref v0, .int v1]) (mfX0_drawn v0 v1 t) hl hY (by decide +kernel) (lg_le (List.forall_mem_cons.mpr ⟨rfl, List.forall_mem_cons.mpr ⟨rfl, fun _ h => absurd h List.not_mem_nil⟩⟩) (Nat.le_of_ble_eq_true rfl)) (lv_args_cat (List.forall_mem_cons.mpr ⟨rfl, List.forall_mem_cons.mpr ⟨rfl, fun _ h => absurd h List.not_mem_nil⟩⟩)) ?_
  intro X ad0 hln hC hnL hrt hnm hT hmd
  subst hln
  have hG := hC.1
  rw [lv_args_s (List.forall_mem_cons.mpr ⟨rfl, List.forall_mem_cons.mpr ⟨rfl, fun _ h => absurd h List.not_mem_nil⟩⟩)]
  show GC X Y (cM Y X 5 t ad0 rI) _ t 0 [(0, .ref v0), (1, .int v1)] []
  unfold fX0_drawn
  refine gc_iload_n hG dX0_drawn_0 rfl rfl ?_
  refine gc_iconst hG (nI 1) dX0_drawn_1 (by decide) ?_
  refine gc_bipush hG (nI 40) dX0_drawn_2 (by decide) ?_
  refine gc_callS (f := fX0_within v1 (nI 1) (nI 40) t) (As := [.int v1, .int (nI 1), .int (nI 40)]) (rest := []) (n := 3) (d' := 1) hC hnL (wX0_within (gLn X) Y hl hY v1 (nI 1) (nI 40) t) dX0_drawn_4 q370 q250 q74 q251 ⟨by decide +kernel, by decide +kernel⟩ rfl (by decide) (by decide) (Nat.le_of_ble_eq_true rfl) (kn_I (fun r1 s2 => ?_)) kx_I
  refine gc_if_ne hG (tgt := 12) dX0_drawn_7 (by decide) ?_ ?_
  · refine gc_iconst hG (-1 : Int32) dX0_drawn_10 (by decide) ?_
    exact gc_iret hC hrt rfl rfl dX0_drawn_11
  · refine gc_aload_n hG (v := .ref v0) (refV_a _) dX0_drawn_12 rfl rfl ?_
    refine gc_gd (fun hk => ?_)
    refine gc_get hC (ci := 0) (j := 0) (v := vr (cR s2 1 v0)) hk dX0_drawn_13 rfl (by decide) in_X0 q224 (fun _ h => h) rfl ?_
    refine gc_letr (fun x3 h_ => ?_)
    refine gc_rv (fun a4 h_ => ?_)
    subst h_
    refine gc_gd (fun hk => ?_)
    refine gc_getN hC (ci := 1) (j := 1) (v := .int (cI s2 7 a4)) hk dX0_drawn_16 rfl (by decide) in_X1 q164 (fun _ h => h) rfl ?_
    refine gc_letv (fun x5 h_ => ?_)
    refine gc_if_ne hG (tgt := 25) dX0_drawn_19 (by decide) ?_ ?_
    · refine gc_bipush hG (-5 : Int32) dX0_drawn_22 (by decide) ?_
      exact gc_iret hC hrt rfl rfl dX0_drawn_24
    · refine gc_aload_n hG (v := .ref v0) (refV_a _) dX0_drawn_25 rfl rfl ?_
      refine gc_gd (fun hk => ?_)
      refine gc_get hC (ci := 0) (j := 0) (v := vr (cR s2 1 v0)) hk dX0_drawn_26 rfl (by decide) in_X0 q224 (fun _ h => h) rfl ?_
      refine gc_letr (fun x6 h_ => ?_)
      refine gc_rv (fun a7 h_ => ?_)
      subst h_
      refine gc_gd (fun hk => ?_)
      refine gc_getN hC (ci := 1) (j := 5) (v := .int (cI s2 11 a7)) hk dX0_drawn_29 rfl (by decide) in_X1 q173 (fun _ h => h) rfl ?_
      refine gc_letv (fun x8 h_ => ?_)
      refine gc_istore_n hG dX0_drawn_32 rfl (Nat.le_of_ble_eq_true rfl) (lv' := [(0, _), (1, _), (2, _)]) rfl ?_
      refine gc_iconst hG (nI 0) dX0_drawn_33 (by decide) ?_
      refine gc_istore_n hG dX0_drawn_34 rfl (Nat.le_of_ble_eq_true rfl) (lv' := [(0, _), (1, _), (2, _), (3, _)]) rfl ?_
      refine gfX0_drawn_L35 (s0 := t) (ad0 := ad0) hC hl hY hnL hrt hnm hT hmd v0 v1 x8 _ (fun t35 => ?_) FU (nI 0) s2
      refine gc_aload_n hG (v := .ref v0) (refV_a _) dX0_drawn_130 rfl rfl ?_
      refine gc_gd (fun hk => ?_)
      refine gc_get hC (ci := 0) (j := 0) (v := vr (cR t35 1 v0)) hk dX0_drawn_131 rfl (by decide) in_X0 q224 (fun _ h => h) rfl ?_
      refine gc_letr (fun x36 h_ => ?_)
      refine gc_rv (fun a37 h_ => ?_)
      subst h_
      refine gc_gd (fun hk => ?_)
      refine gc_getN hC (ci := 1) (j := 5) (v := .int (cI t35 11 a37)) hk dX0_drawn_134 rfl (by decide) in_X1 q173 (fun _ h => h) rfl ?_
      refine gc_letv (fun x38 h_ => ?_)
      refine gc_iload_n hG dX0_drawn_137 rfl rfl ?_
      refine gc_isub hG dX0_drawn_138 ?_
      exact gc_iret hC hrt rfl rfl dX0_drawn_139
def fX0_seed (v0 : Nat) (v1 : Int32) (t : cS) : Option (Int32 × cS) :=
  gd (cK t v0 = 1) (
  letv (cR t 1 v0) (fun x1 =>
  rv x1 (fun a2 =>
  gd (cK t a2 = 2) (
  letv (cI t 13 a2) (fun x3 =>
  gd (cK t v0 = 1) (
  letv (cR t 1 v0) (fun x4 =>
  rv x4 (fun a5 =>
  gd (cK t a5 = 2) (
  letv (sI t 13 a5 v1) (fun s6 =>
  (some (x3, s6))
  )
  )
  )
  )
  )
  )
  )
  )
  )
  )
theorem mfX0_seed (v0 : Nat) (v1 : Int32) (t : cS) : MO t (fX0_seed v0 v1 t) := by
  unfold fX0_seed
  refine mo_gd ?_
  refine mo_letv (fun _ => ?_)
  refine mo_rv (fun _ => ?_)
  refine mo_gd ?_
  refine mo_letv (fun _ => ?_)
  refine mo_gd ?_
  refine mo_letv (fun _ => ?_)
  refine mo_rv (fun _ => ?_)
  refine mo_gd ?_
  refine mo_letS cMo_sI (fun _ => ?_)
  exact mo_some
set_option maxHeartbeats 4000000 in
theorem wX0_seed (l : Launch) (Y : cY) (hl : l.stackTraces = false) (hY : ∀ q, q < Y.2.2.2.2.size → ¬ Y.2.2.2.1 q) (v0 : Nat) (v1 : Int32) (t : cS) : cFn l Y yX0_seed (ws_ yX0_seed cX0_seed 3 (some .int)) 1 [.ref v0, .int v1] t (fX0_seed v0 v1 t) rI := by
  refine cmet (av := [.ref v0, .int v1]) (mfX0_seed v0 v1 t) hl hY (by decide +kernel) (lg_le (List.forall_mem_cons.mpr ⟨rfl, List.forall_mem_cons.mpr ⟨rfl, fun _ h => absurd h List.not_mem_nil⟩⟩) (Nat.le_of_ble_eq_true rfl)) (lv_args_cat (List.forall_mem_cons.mpr ⟨rfl, List.forall_mem_cons.mpr ⟨rfl, fun _ h => absurd h List.not_mem_nil⟩⟩)) ?_
  intro X ad0 hln hC hnL hrt hnm hT hmd
  subst hln
  have hG := hC.1
  rw [lv_args_s (List.forall_mem_cons.mpr ⟨rfl, List.forall_mem_cons.mpr ⟨rfl, fun _ h => absurd h List.not_mem_nil⟩⟩)]
  show GC X Y (cM Y X 3 t ad0 rI) _ t 0 [(0, .ref v0), (1, .int v1)] []
  unfold fX0_seed
  refine gc_aload_n hG (v := .ref v0) (refV_a _) dX0_seed_0 rfl rfl ?_
  refine gc_gd (fun hk => ?_)
  refine gc_get hC (ci := 0) (j := 0) (v := vr (cR t 1 v0)) hk dX0_seed_1 rfl (by decide) in_X0 q224 (fun _ h => h) rfl ?_
  refine gc_letr (fun x1 h_ => ?_)
  refine gc_rv (fun a2 h_ => ?_)
  subst h_
  refine gc_gd (fun hk => ?_)
  refine gc_getN hC (ci := 1) (j := 7) (v := .int (cI t 13 a2)) hk dX0_seed_4 rfl (by decide) in_X1 q177 (fun _ h => h) rfl ?_
  refine gc_letv (fun x3 h_ => ?_)
  refine gc_istore_n hG dX0_seed_7 rfl (Nat.le_of_ble_eq_true rfl) (lv' := [(0, _), (1, _), (2, _)]) rfl ?_
  refine gc_aload_n hG (v := .ref v0) (refV_a _) dX0_seed_8 rfl rfl ?_
  refine gc_gd (fun hk => ?_)
  refine gc_get hC (ci := 0) (j := 0) (v := vr (cR t 1 v0)) hk dX0_seed_9 rfl (by decide) in_X0 q224 (fun _ h => h) rfl ?_
  refine gc_letr (fun x4 h_ => ?_)
  refine gc_iload_n hG dX0_seed_12 rfl rfl ?_
  refine gc_rv (fun a5 h_ => ?_)
  subst h_
  refine gc_gd (fun hk => ?_)
  have pt := pt_I (s := t) (f := 13) (a := a5) (x := v1) rfl
  refine gc_putN hC tyX1 tyX1_ok nmX1 hk dX0_seed_13 (ci := 1) (j := 7) (Or.inl (by decide)) rfl (by decide) in_X1 q177 (fun _ h => h) rfl (tyX1_ok 7 (by decide)) (fun _ => rfl) (fun _ => rfl) pt.1.1 pt.1.2.1 pt.1.2.2.1 pt.1.2.2.2 pt.2.1 pt.2.2.1 pt.2.2.2 ?_
  refine gc_letS (fun s6 => ?_)
  refine gc_iload_n hG dX0_seed_16 rfl rfl ?_
  exact gc_iret hC hrt rfl rfl dX0_seed_17
def fX0_nextDealt_L5 (v0 : Nat) (v1 : Option Nat) (v2 : Int32) (kx : cS → Option (Int32 × cS)) : Nat → cS → Option (Int32 × cS)
  | 0, _ => none
  | k + 1, t =>
    rv v1 (fun a3 =>
    gd (cK t a3 = 20 ∧ cIn t a3 (nI 0)) (
    letv (cI t (ei ((nI 0)).toNatClampNeg) a3) (fun x4 =>
    if 0 < x4 then
      gd (cK t v0 = 2) (
      ob (fX1_steps v0 t) (fun r5 s6 =>
      if r5 = 0 then
        kx s6
      else
        gd (cK s6 a3 = 20 ∧ cIn s6 a3 (nI 0)) (
        letv (cI s6 (ei ((nI 0)).toNatClampNeg) a3) (fun x7 =>
        gd (cK s6 a3 = 20 ∧ cIn s6 a3 (nI 0)) (
        letv (sI s6 (ei ((nI 0)).toNatClampNeg) a3 (x7 - (nI 1))) (fun s8 =>
        gd (cK s8 v0 = 2) (
        letv (cI s8 9 v0) (fun x9 =>
        if v2 < x9 then
          gd (cK s8 v0 = 2) (
          letv (cR s8 14 v0) (fun x10 =>
          gd (cK s8 v0 = 2) (
          letv (cI s8 15 v0) (fun x11 =>
          rv x10 (fun a12 =>
          gd (cK s8 a12 = 20 ∧ cIn s8 a12 (irm (x11 - (nI 1)) (nI 30))) (
          letv (cI s8 (ei ((irm (x11 - (nI 1)) (nI 30))).toNatClampNeg) a12) (fun x13 =>
          (some (x13, s8))
          )
          )
          )
          )
          )
          )
          )
        else
          fX0_nextDealt_L5 v0 v1 v2 kx k s8
        )
        )
        )
        )
        )
        )
      )
      )
    else
      kx t
    )
    )
    )
theorem mfX0_nextDealt_L5 (v0 : Nat) (v1 : Option Nat) (v2 : Int32) (kx : cS → Option (Int32 × cS)) (hkx : ∀  (t : cS), MO t (kx t)) : ∀ (k : Nat)  (t : cS), MO t (fX0_nextDealt_L5 v0 v1 v2 kx k t) := by
  intro k
  induction k with
  | zero => intro t; exact mo_none
  | succ k ih =>
    intro t
    rw [fX0_nextDealt_L5]
    refine mo_rv (fun _ => ?_)
    refine mo_gd ?_
    refine mo_letv (fun _ => ?_)
    refine mo_ite ?_ ?_
    · refine mo_gd ?_
      refine mo_ob (by apply mfX1_steps) (fun _ _ => ?_)
      refine mo_ite ?_ ?_
      · exact hkx _
      · refine mo_gd ?_
        refine mo_letv (fun _ => ?_)
        refine mo_gd ?_
        refine mo_letS cMo_sI (fun _ => ?_)
        refine mo_gd ?_
        refine mo_letv (fun _ => ?_)
        refine mo_ite ?_ ?_
        · refine mo_gd ?_
          refine mo_letv (fun _ => ?_)
          refine mo_gd ?_
          refine mo_letv (fun _ => ?_)
          refine mo_rv (fun _ => ?_)
          refine mo_gd ?_
          refine mo_letv (fun _ => ?_)
          exact mo_some
        · exact ih _
    · exact hkx _
set_option maxHeartbeats 4000000 in
theorem gfX0_nextDealt_L5 {X : gCx} {Y : cY} {s0 : cS} {ad0 : Nat → Nat} (hC : cOk X Y RX0 cX0_nextDealt 38) (hl : (gLn X).stackTraces = false) (hY : ∀ q, q < Y.2.2.2.2.size → ¬ Y.2.2.2.1 q) (hnL : gLoc X = 3) (hrt : gRet X = (some .int)) (hnm : X.2.2.2.2.2.2.2.2.1.name = "nextDealt") (hT : gTab X = []) (hmd : (gSt X).methodNamed? yX0_nextDealt = some (gMe X)) (v0 : Nat) (v1 : Option Nat) (v2 : Int32) (kx : cS → Option (Int32 × cS)) (hkx : ∀  (t : cS), GC X Y (cM Y X 3 s0 ad0 rI) (kx t) t 48 [] []) : ∀ (k : Nat)  (t : cS), GC X Y (cM Y X 3 s0 ad0 rI) (fX0_nextDealt_L5 v0 v1 v2 kx k t) t 5 [(0, .ref v0), (1, vr v1), (2, .int v2)] [] := by
  have hG := hC.1
  intro k
  induction k with
  | zero => intro t; exact gc_none
  | succ k ih =>
    intro t
    rw [fX0_nextDealt_L5]
    refine gc_aload_n hG (v := vr v1) (refV_x _) dX0_nextDealt_5 rfl rfl ?_
    refine gc_iconst hG (nI 0) dX0_nextDealt_6 (by decide) ?_
    refine gc_rv (fun a3 h_ => ?_)
    subst h_
    refine gc_gd (fun hk => ?_)
    refine gc_iald hC hk.1 hk.2 dX0_nextDealt_7 ?_
    refine gc_letv (fun x4 h_ => ?_)
    refine gc_if_le hG (tgt := 48) dX0_nextDealt_8 (by decide) ?_ ?_
    · refine gc_aload_n hG (v := .ref v0) (refV_a _) dX0_nextDealt_11 rfl rfl ?_
      refine gc_gd (fun hk => ?_)
      refine gc_callV (f := fX1_steps v0 t) (As := []) (rest := []) (n := 0) (d' := 37) (b := v0) hC hnL (wX1_steps (gLn X) Y hl hY v0 t) hk (ci := 1) rfl dX0_nextDealt_12 q1059 q711 q712 q75 q713 ⟨by decide +kernel, by decide +kernel⟩ rfl (by decide) (by decide) (Nat.le_of_ble_eq_true rfl) (kn_I (fun r5 s6 => ?_)) kx_I
      refine gc_if_eq hG (tgt := 48) dX0_nextDealt_15 (by decide) ?_ ?_
      · refine gc_sub [] rfl ?_
        exact hkx s6
      · refine gc_aload_n hG (v := .ref a3) (refV_a _) dX0_nextDealt_18 rfl rfl ?_
        refine gc_iconst hG (nI 0) dX0_nextDealt_19 (by decide) ?_
        refine gc_dup2 hG dX0_nextDealt_20 rfl rfl ?_
        refine gc_gd (fun hk => ?_)
        refine gc_iald hC hk.1 hk.2 dX0_nextDealt_21 ?_
        refine gc_letv (fun x7 h_ => ?_)
        refine gc_iconst hG (nI 1) dX0_nextDealt_22 (by decide) ?_
        refine gc_isub hG dX0_nextDealt_23 ?_
        refine gc_gd (fun hk => ?_)
        refine gc_iast hC hk.1 hk.2 dX0_nextDealt_24 ?_
        refine gc_letS (fun s8 => ?_)
        refine gc_aload_n hG (v := .ref v0) (refV_a _) dX0_nextDealt_25 rfl rfl ?_
        refine gc_gd (fun hk => ?_)
        refine gc_getN hC (ci := 1) (j := 3) (v := .int (cI s8 9 v0)) hk dX0_nextDealt_26 rfl (by decide) in_X1 q168 (fun _ h => h) rfl ?_
        refine gc_letv (fun x9 h_ => ?_)
        refine gc_iload_n hG dX0_nextDealt_29 rfl rfl ?_
        refine gc_icmp_le hG (tgt := 5) dX0_nextDealt_30 (by decide) ?_ ?_
        · refine gc_aload_n hG (v := .ref v0) (refV_a _) dX0_nextDealt_33 rfl rfl ?_
          refine gc_gd (fun hk => ?_)
          refine gc_getN hC (ci := 1) (j := 8) (v := vr (cR s8 14 v0)) hk dX0_nextDealt_34 rfl (by decide) in_X1 q179 (fun _ h => h) rfl ?_
          refine gc_letr (fun x10 h_ => ?_)
          refine gc_aload_n hG (v := .ref v0) (refV_a _) dX0_nextDealt_37 rfl rfl ?_
          refine gc_gd (fun hk => ?_)
          refine gc_getN hC (ci := 1) (j := 9) (v := .int (cI s8 15 v0)) hk dX0_nextDealt_38 rfl (by decide) in_X1 q181 (fun _ h => h) rfl ?_
          refine gc_letv (fun x11 h_ => ?_)
          refine gc_iconst hG (nI 1) dX0_nextDealt_41 (by decide) ?_
          refine gc_isub hG dX0_nextDealt_42 ?_
          refine gc_bipush hG (nI 30) dX0_nextDealt_43 (by decide) ?_
          refine gc_irem hG dX0_nextDealt_45 (by decide) ?_
          refine gc_rv (fun a12 h_ => ?_)
          subst h_
          refine gc_gd (fun hk => ?_)
          refine gc_iald hC hk.1 hk.2 dX0_nextDealt_46 ?_
          refine gc_letv (fun x13 h_ => ?_)
          exact gc_iret hC hrt rfl rfl dX0_nextDealt_47
        · exact ih s8
    · refine gc_sub [] rfl ?_
      exact hkx t
def fX0_nextDealt (v0 : Option Nat) (v1 : Option Nat) (t : cS) : Option (Int32 × cS) :=
  rv v0 (fun a1 =>
  gd (cK t a1 = 2) (
  letv (cI t 9 a1) (fun x2 =>
  fX0_nextDealt_L5 a1 v1 x2 (fun  (t14 : cS) =>
    (some ((-2 : Int32), t14))
    ) FU t
  )
  )
  )
theorem mfX0_nextDealt (v0 : Option Nat) (v1 : Option Nat) (t : cS) : MO t (fX0_nextDealt v0 v1 t) := by
  unfold fX0_nextDealt
  refine mo_rv (fun _ => ?_)
  refine mo_gd ?_
  refine mo_letv (fun _ => ?_)
  refine mfX0_nextDealt_L5 _ _ _ _ (fun _ => ?_) _ _
  exact mo_some
set_option maxHeartbeats 4000000 in
theorem wX0_nextDealt (l : Launch) (Y : cY) (hl : l.stackTraces = false) (hY : ∀ q, q < Y.2.2.2.2.size → ¬ Y.2.2.2.1 q) (v0 : Option Nat) (v1 : Option Nat) (t : cS) : cFn l Y yX0_nextDealt (ws_ yX0_nextDealt cX0_nextDealt 3 (some .int)) 38 [vr v0, vr v1] t (fX0_nextDealt v0 v1 t) rI := by
  refine cmet (av := [vr v0, vr v1]) (mfX0_nextDealt v0 v1 t) hl hY (by decide +kernel) (lg_le (List.forall_mem_cons.mpr ⟨(cat_vr _), List.forall_mem_cons.mpr ⟨(cat_vr _), fun _ h => absurd h List.not_mem_nil⟩⟩) (Nat.le_of_ble_eq_true rfl)) (lv_args_cat (List.forall_mem_cons.mpr ⟨(cat_vr _), List.forall_mem_cons.mpr ⟨(cat_vr _), fun _ h => absurd h List.not_mem_nil⟩⟩)) ?_
  intro X ad0 hln hC hnL hrt hnm hT hmd
  subst hln
  have hG := hC.1
  rw [lv_args_s (List.forall_mem_cons.mpr ⟨(cat_vr _), List.forall_mem_cons.mpr ⟨(cat_vr _), fun _ h => absurd h List.not_mem_nil⟩⟩)]
  show GC X Y (cM Y X 3 t ad0 rI) _ t 0 [(0, vr v0), (1, vr v1)] []
  unfold fX0_nextDealt
  refine gc_aload_n hG (v := vr v0) (refV_x _) dX0_nextDealt_0 rfl rfl ?_
  refine gc_rv (fun a1 h_ => ?_)
  subst h_
  refine gc_gd (fun hk => ?_)
  refine gc_getN hC (ci := 1) (j := 3) (v := .int (cI t 9 a1)) hk dX0_nextDealt_1 rfl (by decide) in_X1 q168 (fun _ h => h) rfl ?_
  refine gc_letv (fun x2 h_ => ?_)
  refine gc_istore_n hG dX0_nextDealt_4 rfl (Nat.le_of_ble_eq_true rfl) (lv' := [(0, _), (1, _), (2, _)]) rfl ?_
  refine gfX0_nextDealt_L5 (s0 := t) (ad0 := ad0) hC hl hY hnL hrt hnm hT hmd a1 v1 x2  _ (fun t14 => ?_) FU t
  refine gc_bipush hG (-2 : Int32) dX0_nextDealt_48 (by decide) ?_
  exact gc_iret hC hrt rfl rfl dX0_nextDealt_50
def fX0_order_L71 (v2 : Int32) (v5 : Option Nat) (v6 : Nat) (kx : cS → Option (Int32 × cS)) : Nat → Option Nat → Int32 → cS → Option (Int32 × cS)
  | 0, _, _, _ => none
  | k + 1, v3, v7, t =>
    if v7 < v2 then
      ob (fX0_nextDealt v5 (some v6) t) (fun r15 s16 =>
      if r15 = (-2 : Int32) then
        (some (v7, s16))
      else
        rv v3 (fun a17 =>
        gd (cK s16 a17 = 20 ∧ cIn s16 a17 ((nI 2) * v7)) (
        letv (cI s16 (ei (((nI 2) * v7)).toNatClampNeg) a17) (fun x18 =>
        if x18 = (r15 / (nI 1000)) then
          gd (cK s16 a17 = 20 ∧ cIn s16 a17 (((nI 2) * v7) + (nI 1))) (
          letv (cI s16 (ei ((((nI 2) * v7) + (nI 1))).toNatClampNeg) a17) (fun x19 =>
          if x19 = ((irm r15 (nI 1000)) - (nI 300)) then
            letv (v7 + (nI 1)) (fun y20 =>
            fX0_order_L71 v2 v5 v6 kx k (some a17) y20 s16
            )
          else
            (some (v7, s16))
          )
          )
        else
          (some (v7, s16))
        )
        )
        )
      )
    else
      kx t
theorem mfX0_order_L71 (v2 : Int32) (v5 : Option Nat) (v6 : Nat) (kx : cS → Option (Int32 × cS)) (hkx : ∀  (t : cS), MO t (kx t)) : ∀ (k : Nat) (v3 : Option Nat) (v7 : Int32) (t : cS), MO t (fX0_order_L71 v2 v5 v6 kx k v3 v7 t) := by
  intro k
  induction k with
  | zero => intro v3 v7 t; exact mo_none
  | succ k ih =>
    intro v3 v7 t
    rw [fX0_order_L71]
    refine mo_ite ?_ ?_
    · refine mo_ob (by apply mfX0_nextDealt) (fun _ _ => ?_)
      refine mo_ite ?_ ?_
      · exact mo_some
      · refine mo_rv (fun _ => ?_)
        refine mo_gd ?_
        refine mo_letv (fun _ => ?_)
        refine mo_ite ?_ ?_
        · refine mo_gd ?_
          refine mo_letv (fun _ => ?_)
          refine mo_ite ?_ ?_
          · refine mo_letv (fun _ => ?_)
            exact ih _ _ _
          · exact mo_some
        · exact mo_some
    · exact hkx _
set_option maxHeartbeats 4000000 in
theorem gfX0_order_L71 {X : gCx} {Y : cY} {s0 : cS} {ad0 : Nat → Nat} (hC : cOk X Y RX0 cX0_order 39) (hl : (gLn X).stackTraces = false) (hY : ∀ q, q < Y.2.2.2.2.size → ¬ Y.2.2.2.1 q) (hnL : gLoc X = 9) (hrt : gRet X = (some .int)) (hnm : X.2.2.2.2.2.2.2.2.1.name = "order") (hT : gTab X = tableOf [(11, 31, 141, 133), (32, 47, 141, 133), (48, 131, 141, 133), (132, 140, 141, 133), (11, 31, 145, 275), (32, 47, 145, 275), (48, 131, 145, 275), (132, 140, 145, 275)]) (hmd : (gSt X).methodNamed? yX0_order = some (gMe X)) (v2 : Int32) (v5 : Option Nat) (v6 : Nat) (kx : cS → Option (Int32 × cS)) (hkx : ∀  (t : cS), GC X Y (cM Y X 9 s0 ad0 rI) (kx t) t 138 [] []) : ∀ (k : Nat) (v3 : Option Nat) (v7 : Int32) (t : cS), GC X Y (cM Y X 9 s0 ad0 rI) (fX0_order_L71 v2 v5 v6 kx k v3 v7 t) t 71 [(2, .int v2), (3, vr v3), (5, vr v5), (6, .ref v6), (7, .int v7)] [] := by
  have hG := hC.1
  intro k
  induction k with
  | zero => intro v3 v7 t; exact gc_none
  | succ k ih =>
    intro v3 v7 t
    rw [fX0_order_L71]
    refine gc_iload hG dX0_order_71 rfl ?_
    refine gc_iload_n hG dX0_order_73 rfl rfl ?_
    refine gc_icmp_ge hG (tgt := 138) dX0_order_74 (by decide) ?_ ?_
    · refine gc_aload hG (v := vr v5) (refV_x _) dX0_order_77 rfl ?_
      refine gc_aload hG (v := .ref v6) (refV_a _) dX0_order_79 rfl ?_
      refine gc_callS (f := fX0_nextDealt v5 (some v6) t) (As := [vr v5, .ref v6]) (rest := []) (n := 2) (d' := 38) hC hnL (wX0_nextDealt (gLn X) Y hl hY v5 (some v6) t) dX0_order_81 q1213 q1214 q74 q1215 ⟨by decide +kernel, by decide +kernel⟩ rfl (by decide) (by decide) (Nat.le_of_ble_eq_true rfl) (kn_I (fun r15 s16 => ?_)) kx_I
      refine gc_istore hG dX0_order_84 (Nat.le_of_ble_eq_true rfl) (lv' := [(2, _), (3, _), (5, _), (6, _), (7, _), (8, _)]) rfl ?_
      refine gc_iload hG dX0_order_86 rfl ?_
      refine gc_bipush hG (-2 : Int32) dX0_order_88 (by decide) ?_
      refine gc_icmp_eq hG (tgt := 129) dX0_order_90 (by decide) ?_ ?_
      · refine gc_iload hG dX0_order_129 rfl ?_
        exact gc_iret hC hrt rfl rfl dX0_order_131
      · refine gc_aload_n hG (v := vr v3) (refV_x _) dX0_order_93 rfl rfl ?_
        refine gc_iconst hG (nI 2) dX0_order_94 (by decide) ?_
        refine gc_iload hG dX0_order_95 rfl ?_
        refine gc_imul hG dX0_order_97 ?_
        refine gc_rv (fun a17 h_ => ?_)
        subst h_
        refine gc_gd (fun hk => ?_)
        refine gc_iald hC hk.1 hk.2 dX0_order_98 ?_
        refine gc_letv (fun x18 h_ => ?_)
        refine gc_iload hG dX0_order_99 rfl ?_
        refine gc_sipush hG (nI 1000) dX0_order_101 (by decide) ?_
        refine gc_idiv hG dX0_order_104 (by decide) ?_
        refine gc_icmp_ne hG (tgt := 129) dX0_order_105 (by decide) ?_ ?_
        · refine gc_aload_n hG (v := .ref a17) (refV_a _) dX0_order_108 rfl rfl ?_
          refine gc_iconst hG (nI 2) dX0_order_109 (by decide) ?_
          refine gc_iload hG dX0_order_110 rfl ?_
          refine gc_imul hG dX0_order_112 ?_
          refine gc_iconst hG (nI 1) dX0_order_113 (by decide) ?_
          refine gc_iadd hG dX0_order_114 ?_
          refine gc_gd (fun hk => ?_)
          refine gc_iald hC hk.1 hk.2 dX0_order_115 ?_
          refine gc_letv (fun x19 h_ => ?_)
          refine gc_iload hG dX0_order_116 rfl ?_
          refine gc_sipush hG (nI 1000) dX0_order_118 (by decide) ?_
          refine gc_irem hG dX0_order_121 (by decide) ?_
          refine gc_sipush hG (nI 300) dX0_order_122 (by decide) ?_
          refine gc_isub hG dX0_order_125 ?_
          refine gc_icmp_eq hG (tgt := 132) dX0_order_126 (by decide) ?_ ?_
          · refine gc_letiinc hG (c := (nI 1)) (lv' := fun y20 => [(2, .int v2), (3, .ref a17), (5, vr v5), (6, .ref v6), (7, .int y20), (8, .int r15)]) dX0_order_132 rfl (by decide) (Nat.le_of_ble_eq_true rfl) (fun _ => rfl) (fun y20 => ?_)
            refine gc_goto hG (tgt := 71) dX0_order_135 (by decide) ?_
            refine gc_sub [0, 1, 2, 3, 4] rfl ?_
            exact ih (some a17) y20 s16
          · refine gc_iload hG dX0_order_129 rfl ?_
            exact gc_iret hC hrt rfl rfl dX0_order_131
        · refine gc_iload hG dX0_order_129 rfl ?_
          exact gc_iret hC hrt rfl rfl dX0_order_131
    · refine gc_sub [] rfl ?_
      exact hkx t
def fX0_order (v0 : Nat) (v1 : Int32) (v2 : Int32) (t : cS) : Option (Int32 × cS) :=
  ob (fX0_within v1 (nI 0) (nI 5) t) (fun r1 s2 =>
  if r1 = 0 then
    (some ((-1 : Int32), s2))
  else
    gd (cK s2 v0 = 1) (
    letv (cR s2 5 v0) (fun x3 =>
    rv x3 (fun a4 =>
    gd (cK s2 a4 = 22 ∧ cIn s2 a4 v1) (
    letv (cR s2 (er (v1).toNatClampNeg) a4) (fun x5 =>
    onul x5 (
      letv (sX s2 1 8) (fun s7 =>
      (some ((-11 : Int32), s7))
      )
    ) (fun a6 =>
      if cK s2 a6 = 20 then
        gd (cK s2 a6 = 20) (letv (nI (cL s2 a6)) (fun x8 =>
        if v2 < 0 then
          (some ((-14 : Int32), s2))
        else
          if 0 < (if (Int32.toInt64 x8) < ((2 : Int64) * (Int32.toInt64 v2)) then (1 : Int32) else if ((2 : Int64) * (Int32.toInt64 v2)) = (Int32.toInt64 x8) then 0 else -1) then
            (some ((-13 : Int32), s2))
          else
            gd (cK s2 v0 = 1) (
            letv (cR s2 1 v0) (fun x9 =>
            rv x9 (fun a10 =>
            gd (cK s2 a10 = 2) (
            ob (fX1_copy a10 s2) (fun r11 s12 =>
            letv (sN s12 20 1 1) (fun s13 =>
            gd (cK s13 (cn s12) = 20 ∧ cIn s13 (cn s12) (nI 0)) (
            letv (sI s13 (ei ((nI 0)).toNatClampNeg) (cn s12) (nI 200)) (fun s14 =>
            fX0_order_L71 v2 r11 (cn s12) (fun  (t21 : cS) =>
              (some ((-2 : Int32), t21))
              ) FU (some a6) (nI 0) s14
            )
            )
            )
            )
            )
            )
            )
            )
        ))
      else
        gd (cK s2 a6 = 16) (
        letv (sX s2 3 770) (fun s22 =>
        (some ((-12 : Int32), s22))
        )
        )
    )
    )
    )
    )
    )
    )
  )
theorem mfX0_order (v0 : Nat) (v1 : Int32) (v2 : Int32) (t : cS) : MO t (fX0_order v0 v1 v2 t) := by
  unfold fX0_order
  refine mo_ob (by apply mfX0_within) (fun _ _ => ?_)
  refine mo_ite ?_ ?_
  · exact mo_some
  · refine mo_gd ?_
    refine mo_letv (fun _ => ?_)
    refine mo_rv (fun _ => ?_)
    refine mo_gd ?_
    refine mo_letv (fun _ => ?_)
    refine mo_onul ?_ (fun _ => ?_)
    · refine mo_letS cMo_sX (fun _ => ?_)
      exact mo_some
    · refine mo_ite ?_ ?_
      · refine mo_gd ?_
        refine mo_letv (fun _ => ?_)
        refine mo_ite ?_ ?_
        · exact mo_some
        · refine mo_ite ?_ ?_
          · exact mo_some
          · refine mo_gd ?_
            refine mo_letv (fun _ => ?_)
            refine mo_rv (fun _ => ?_)
            refine mo_gd ?_
            refine mo_ob (by apply mfX1_copy) (fun _ _ => ?_)
            refine mo_letS cMo_sN (fun _ => ?_)
            refine mo_gd ?_
            refine mo_letS cMo_sI (fun _ => ?_)
            refine mfX0_order_L71 _ _ _ _ (fun _ => ?_) _ _ _ _
            exact mo_some
      · refine mo_gd ?_
        refine mo_letS cMo_sX (fun _ => ?_)
        exact mo_some
set_option maxHeartbeats 4000000 in
theorem wX0_order (l : Launch) (Y : cY) (hl : l.stackTraces = false) (hY : ∀ q, q < Y.2.2.2.2.size → ¬ Y.2.2.2.1 q) (v0 : Nat) (v1 : Int32) (v2 : Int32) (t : cS) : cFn l Y yX0_order (wsW_ yX0_order cX0_order 9 (some .int) [(11, 31, 141, 133), (32, 47, 141, 133), (48, 131, 141, 133), (132, 140, 141, 133), (11, 31, 145, 275), (32, 47, 145, 275), (48, 131, 145, 275), (132, 140, 145, 275)]) 39 [.ref v0, .int v1, .int v2] t (fX0_order v0 v1 v2 t) rI := by
  refine cmetW (av := [.ref v0, .int v1, .int v2]) (mfX0_order v0 v1 v2 t) hl hY (by decide +kernel) (lg_le (List.forall_mem_cons.mpr ⟨rfl, List.forall_mem_cons.mpr ⟨rfl, List.forall_mem_cons.mpr ⟨rfl, fun _ h => absurd h List.not_mem_nil⟩⟩⟩) (Nat.le_of_ble_eq_true rfl)) (lv_args_cat (List.forall_mem_cons.mpr ⟨rfl, List.forall_mem_cons.mpr ⟨rfl, List.forall_mem_cons.mpr ⟨rfl, fun _ h => absurd h List.not_mem_nil⟩⟩⟩)) ?_
  intro X ad0 hln hC hnL hrt hnm hT hmd
  subst hln
  have hG := hC.1
  rw [lv_args_s (List.forall_mem_cons.mpr ⟨rfl, List.forall_mem_cons.mpr ⟨rfl, List.forall_mem_cons.mpr ⟨rfl, fun _ h => absurd h List.not_mem_nil⟩⟩⟩)]
  show GC X Y (cM Y X 9 t ad0 rI) _ t 0 [(0, .ref v0), (1, .int v1), (2, .int v2)] []
  unfold fX0_order
  refine gc_iload_n hG dX0_order_0 rfl rfl ?_
  refine gc_iconst hG (nI 0) dX0_order_1 (by decide) ?_
  refine gc_iconst hG (nI 5) dX0_order_2 (by decide) ?_
  refine gc_callS (f := fX0_within v1 (nI 0) (nI 5) t) (As := [.int v1, .int (nI 0), .int (nI 5)]) (rest := []) (n := 3) (d' := 1) hC hnL (wX0_within (gLn X) Y hl hY v1 (nI 0) (nI 5) t) dX0_order_3 q370 q250 q74 q251 ⟨by decide +kernel, by decide +kernel⟩ rfl (by decide) (by decide) (Nat.le_of_ble_eq_true rfl) (kn_I (fun r1 s2 => ?_)) kx_I
  refine gc_if_ne hG (tgt := 11) dX0_order_6 (by decide) ?_ ?_
  · refine gc_iconst hG (-1 : Int32) dX0_order_9 (by decide) ?_
    exact gc_iret hC hrt rfl rfl dX0_order_10
  · refine gc_aload_n hG (v := .ref v0) (refV_a _) dX0_order_11 rfl rfl ?_
    refine gc_gd (fun hk => ?_)
    refine gc_get hC (ci := 0) (j := 4) (v := vr (cR s2 5 v0)) hk dX0_order_12 rfl (by decide) in_X0 q228 (fun _ h => h) rfl ?_
    refine gc_letr (fun x3 h_ => ?_)
    refine gc_iload_n hG dX0_order_15 rfl rfl ?_
    refine gc_rv (fun a4 h_ => ?_)
    subst h_
    refine gc_gd (fun hk => ?_)
    refine gc_aald hC hk.1 (by decide) (by decide) (t0 := 2) rfl hk.2 dX0_order_16 ?_
    refine gc_letr (fun x5 h_ => ?_)
    refine gc_onul (x := x5) (fun h_ => ?_) (fun a6 h_ => ?_)
    · subst h_
      refine gc_castN hG dX0_order_17 ?_
      refine gc_astore_n hG (Or.inl rfl) dX0_order_20 rfl (Nat.le_of_ble_eq_true rfl) (lv' := [(0, _), (1, _), (2, _), (3, _)]) rfl ?_
      refine gc_aload_n hG (v := .null) (Or.inl rfl) dX0_order_21 rfl rfl ?_
      refine gc_alenN hC dX0_order_22 (Nat.le_of_ble_eq_true rfl) ?_
      refine gnn_catch hC hnL [] ((tableOf [(11, 31, 141, 133), (32, 47, 141, 133), (48, 131, 141, 133), (132, 140, 141, 133), (11, 31, 145, 275), (32, 47, 145, 275), (48, 131, 145, 275), (132, 140, 145, 275)])[0]) [(tableOf [(11, 31, 141, 133), (32, 47, 141, 133), (48, 131, 141, 133), (132, 140, 141, 133), (11, 31, 145, 275), (32, 47, 145, 275), (48, 131, 145, 275), (132, 140, 145, 275)])[1], (tableOf [(11, 31, 141, 133), (32, 47, 141, 133), (48, 131, 141, 133), (132, 140, 141, 133), (11, 31, 145, 275), (32, 47, 145, 275), (48, 131, 145, 275), (132, 140, 145, 275)])[2], (tableOf [(11, 31, 141, 133), (32, 47, 141, 133), (48, 131, 141, 133), (132, 140, 141, 133), (11, 31, 145, 275), (32, 47, 145, 275), (48, 131, 145, 275), (132, 140, 145, 275)])[3], (tableOf [(11, 31, 141, 133), (32, 47, 141, 133), (48, 131, 141, 133), (132, 140, 141, 133), (11, 31, 145, 275), (32, 47, 145, 275), (48, 131, 145, 275), (132, 140, 145, 275)])[4], (tableOf [(11, 31, 141, 133), (32, 47, 141, 133), (48, 131, 141, 133), (132, 140, 141, 133), (11, 31, 145, 275), (32, 47, 145, 275), (48, 131, 145, 275), (132, 140, 145, 275)])[5], (tableOf [(11, 31, 141, 133), (32, 47, 141, 133), (48, 131, 141, 133), (132, 140, 141, 133), (11, 31, 145, 275), (32, 47, 145, 275), (48, 131, 145, 275), (132, 140, 145, 275)])[6], (tableOf [(11, 31, 141, 133), (32, 47, 141, 133), (48, 131, 141, 133), (132, 140, 141, 133), (11, 31, 145, 275), (32, 47, 145, 275), (48, 131, 145, 275), (132, 140, 145, 275)])[7]] (by rw [hT]; rfl) (fun _ h => absurd h List.not_mem_nil) rfl (by decide) q494 q564 rfl ?_
      refine gc_sub [] rfl ?_
      refine gn_letS (fun s7 => ?_)
      refine gc_astore_n hG (refV_a _) dX0_order_141 rfl (Nat.le_of_ble_eq_true rfl) (lv' := [(3, _)]) rfl ?_
      refine gc_bipush hG (-11 : Int32) dX0_order_142 (by decide) ?_
      exact gc_iret hC hrt rfl rfl dX0_order_144
    · subst h_
      refine gc_ifp (fun hk => ?_) (fun _ => ?_)
      · refine gc_castI hC hk q1211 dX0_order_17 ?_
        refine gc_astore_n hG (refV_a _) dX0_order_20 rfl (Nat.le_of_ble_eq_true rfl) (lv' := [(0, _), (1, _), (2, _), (3, _)]) rfl ?_
        refine gc_aload_n hG (v := .ref a6) (refV_a _) dX0_order_21 rfl rfl ?_
        refine gc_gd (fun hk => ?_)
        refine gc_alen hC (k := 20) (t0 := 0) (ty := .int) hk (by decide) (by decide) rfl dX0_order_22 ?_
        refine gc_letv (fun x8 h_ => ?_)
        refine gc_istore hG dX0_order_23 (Nat.le_of_ble_eq_true rfl) (lv' := [(0, _), (1, _), (2, _), (3, _), (4, _)]) rfl ?_
        refine gc_iload_n hG dX0_order_25 rfl rfl ?_
        refine gc_if_ge hG (tgt := 32) dX0_order_26 (by decide) ?_ ?_
        · refine gc_bipush hG (-14 : Int32) dX0_order_29 (by decide) ?_
          exact gc_iret hC hrt rfl rfl dX0_order_31
        · refine gc_ldc2 hG (2 : Int64) dX0_order_32 q1212 ?_
          refine gc_iload_n hG dX0_order_35 rfl rfl ?_
          refine gc_i2l hG dX0_order_36 ?_
          refine gc_lmul hG dX0_order_37 ?_
          refine gc_iload hG dX0_order_38 rfl ?_
          refine gc_i2l hG dX0_order_40 ?_
          refine gc_lcmp hG dX0_order_41 ?_
          refine gc_if_le hG (tgt := 48) dX0_order_42 (by decide) ?_ ?_
          · refine gc_bipush hG (-13 : Int32) dX0_order_45 (by decide) ?_
            exact gc_iret hC hrt rfl rfl dX0_order_47
          · refine gc_aload_n hG (v := .ref v0) (refV_a _) dX0_order_48 rfl rfl ?_
            refine gc_gd (fun hk => ?_)
            refine gc_get hC (ci := 0) (j := 0) (v := vr (cR s2 1 v0)) hk dX0_order_49 rfl (by decide) in_X0 q224 (fun _ h => h) rfl ?_
            refine gc_letr (fun x9 h_ => ?_)
            refine gc_rv (fun a10 h_ => ?_)
            subst h_
            refine gc_gd (fun hk => ?_)
            refine gc_callV (f := fX1_copy a10 s2) (As := []) (rest := []) (n := 0) (d' := 5) (b := a10) hC hnL (wX1_copy (gLn X) Y hl hY a10 s2) hk (ci := 1) rfl dX0_order_52 q1037 q1038 q1039 q75 q1040 ⟨by decide +kernel, by decide +kernel⟩ rfl (by decide) (by decide) (Nat.le_of_ble_eq_true rfl) (kn_R (fun r11 s12 => ?_)) kx_R
            refine gc_astore hG (refV_x _) dX0_order_55 (Nat.le_of_ble_eq_true rfl) (lv' := [(0, _), (1, _), (2, _), (3, _), (4, _), (5, _)]) rfl ?_
            refine gc_iconst hG (nI 1) dX0_order_57 (by decide) ?_
            refine gc_newI hC (N := 1) (by decide) (by decide) (by decide) q157 dX0_order_58 ?_
            refine gc_letS (fun s13 => ?_)
            refine gc_dup hG dX0_order_60 rfl ?_
            refine gc_iconst hG (nI 0) dX0_order_61 (by decide) ?_
            refine gc_sipush hG (nI 200) dX0_order_62 (by decide) ?_
            refine gc_gd (fun hk => ?_)
            refine gc_iast hC hk.1 hk.2 dX0_order_65 ?_
            refine gc_letS (fun s14 => ?_)
            refine gc_astore hG (refV_a _) dX0_order_66 (Nat.le_of_ble_eq_true rfl) (lv' := [(0, _), (1, _), (2, _), (3, _), (4, _), (5, _), (6, _)]) rfl ?_
            refine gc_iconst hG (nI 0) dX0_order_68 (by decide) ?_
            refine gc_istore hG dX0_order_69 (Nat.le_of_ble_eq_true rfl) (lv' := [(0, _), (1, _), (2, _), (3, _), (4, _), (5, _), (6, _), (7, _)]) rfl ?_
            refine gc_sub [2, 3, 5, 6, 7] rfl ?_
            refine gfX0_order_L71 (s0 := t) (ad0 := ad0) hC hl hY hnL hrt hnm hT hmd v2 r11 (cn s12)  _ (fun t21 => ?_) FU (some a6) (nI 0) s14
            refine gc_bipush hG (-2 : Int32) dX0_order_138 (by decide) ?_
            exact gc_iret hC hrt rfl rfl dX0_order_140
      · refine gc_gd (fun hk => ?_)
        refine gc_castXS hC hk q1211 dX0_order_17 (Nat.le_of_ble_eq_true rfl) ?_
        refine gn_catch hC hnL cVm_C (by decide) [(tableOf [(11, 31, 141, 133), (32, 47, 141, 133), (48, 131, 141, 133), (132, 140, 141, 133), (11, 31, 145, 275), (32, 47, 145, 275), (48, 131, 145, 275), (132, 140, 145, 275)])[0], (tableOf [(11, 31, 141, 133), (32, 47, 141, 133), (48, 131, 141, 133), (132, 140, 141, 133), (11, 31, 145, 275), (32, 47, 145, 275), (48, 131, 145, 275), (132, 140, 145, 275)])[1], (tableOf [(11, 31, 141, 133), (32, 47, 141, 133), (48, 131, 141, 133), (132, 140, 141, 133), (11, 31, 145, 275), (32, 47, 145, 275), (48, 131, 145, 275), (132, 140, 145, 275)])[2], (tableOf [(11, 31, 141, 133), (32, 47, 141, 133), (48, 131, 141, 133), (132, 140, 141, 133), (11, 31, 145, 275), (32, 47, 145, 275), (48, 131, 145, 275), (132, 140, 145, 275)])[3]] ((tableOf [(11, 31, 141, 133), (32, 47, 141, 133), (48, 131, 141, 133), (132, 140, 141, 133), (11, 31, 145, 275), (32, 47, 145, 275), (48, 131, 145, 275), (132, 140, 145, 275)])[4]) [(tableOf [(11, 31, 141, 133), (32, 47, 141, 133), (48, 131, 141, 133), (132, 140, 141, 133), (11, 31, 145, 275), (32, 47, 145, 275), (48, 131, 145, 275), (132, 140, 145, 275)])[5], (tableOf [(11, 31, 141, 133), (32, 47, 141, 133), (48, 131, 141, 133), (132, 140, 141, 133), (11, 31, 145, 275), (32, 47, 145, 275), (48, 131, 145, 275), (132, 140, 145, 275)])[6], (tableOf [(11, 31, 141, 133), (32, 47, 141, 133), (48, 131, 141, 133), (132, 140, 141, 133), (11, 31, 145, 275), (32, 47, 145, 275), (48, 131, 145, 275), (132, 140, 145, 275)])[7]] (by rw [hT]; rfl) (List.forall_mem_cons.mpr ⟨Or.inr ⟨by decide, "java/lang/NullPointerException", q494, by decide +kernel⟩, List.forall_mem_cons.mpr ⟨Or.inl (by decide), List.forall_mem_cons.mpr ⟨Or.inl (by decide), List.forall_mem_cons.mpr ⟨Or.inl (by decide), fun _ h => absurd h List.not_mem_nil⟩⟩⟩⟩) rfl (by decide) q1197 q1209 rfl ?_
        refine gc_sub [] rfl ?_
        refine gn_letS (fun s22 => ?_)
        refine gc_astore_n hG (refV_a _) dX0_order_145 rfl (Nat.le_of_ble_eq_true rfl) (lv' := [(3, _)]) rfl ?_
        refine gc_bipush hG (-12 : Int32) dX0_order_146 (by decide) ?_
        exact gc_iret hC hrt rfl rfl dX0_order_148
