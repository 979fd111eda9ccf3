/-! walks, by program -/
def fX4_pass_L3 (v1 : Int32) (v2 : Int32) (v3 : Int32) (kx : tSt → Option (Unit × tSt)) : Nat → Int32 → tSt → Option (Unit × tSt)
  | 0, _, _ => none
  | k + 1, v4, t =>
    rv (trd t 0 (nI 924)) (fun x1 =>
    if v4 < x1 then
      ob (fX4_isLiveChild v4 v1 t) (fun r2 t3 =>
      jn (fun  (t4 : tSt) =>
        letv (v4 + (nI 1)) (fun y6 =>
        fX4_pass_L3 v1 v2 v3 kx k y6 t4
        )
        ) (fun (j5 : tSt → Option (Unit × tSt)) =>
        if r2 = 0 then
          j5 t3
        else
          ob (fX4_sends v4 v1 v2 t3) (fun r7 t8 =>
          if v3 = 0 then
            some ((), t8)
          else
            j5 t8
          )
        )
      )
    else
      kx t
    )
set_option maxHeartbeats 4000000 in
theorem gfX4_pass_L3 {X : gCx} {Z : tZ} (hC : tOk X Z RX4 cX4_pass 4) (hnL : gLoc X = 5) (hrt : gRet X = none) (v1 : Int32) (v2 : Int32) (v3 : Int32)  (kx : tSt → Option (Unit × tSt)) (hkx : ∀  (t : tSt), GF X (tM Z X 5 (fun _ : Unit => (none : Option Value))) (kx t) t 46 [] []) : ∀ (k : Nat) (v4 : Int32) (t : tSt), GF X (tM Z X 5 (fun _ : Unit => (none : Option Value))) (fX4_pass_L3 v1 v2 v3 kx k v4 t) t 3 [(0, .ref (Z.2.2.2 18)), (1, .int v1), (2, .int v2), (3, .int v3), (4, .int v4)] [] := by
  have hG := hC.1
  intro k
  induction k with
  | zero => intro v4 t; exact gf_none
  | succ k ih =>
    intro v4 t
    rw [fX4_pass_L3]
    refine gf_iload hG dX4_pass_3 rfl ?_
    refine gf_aload_n hG dX4_pass_5 rfl rfl ?_
    refine tf_get hC 0 dX4_pass_6 (by decide) q1287 rfl ?_
    refine gf_sipush hG (nI 924) dX4_pass_9 (by decide) ?_
    refine tf_iald hC dX4_pass_12 (by decide) (fun x1 => ?_)
    refine gf_icmp_ge hG (tgt := 46) dX4_pass_13 (by decide) ?_ ?_
    · refine gf_aload_n hG dX4_pass_16 rfl rfl ?_
      refine gf_iload hG dX4_pass_17 rfl ?_
      refine gf_iload_n hG dX4_pass_19 rfl rfl ?_
      refine tf_callV (f := fX4_isLiveChild v4 v1 t) (As := [.int v4, .int v1]) (rest := []) (n := 2) (d' := 3) (st1 := fun r2 => [.int r2]) hC hnL (wX4_isLiveChild (gLn X) Z hC.2.2.1 v4 v1 t) dX4_pass_20 (lw_V q1463 q1465 qs44 q78 q1466) (by decide +kernel) rfl (by decide) (by decide) (Nat.le_of_ble_eq_true rfl) (fun _ => rfl) (fun r2 t3 => ?_)
      refine gf_jn (fun j_ => ∀  (t4 : tSt), GF X (tM Z X 5 (fun _ : Unit => (none : Option Value))) (j_ t4) t4 40 [(0, .ref (Z.2.2.2 18)), (1, .int v1), (2, .int v2), (3, .int v3), (4, .int v4)] []) (fun t4 => ?_) (fun j5 hj5 => ?_)
      · refine gf_letiinc hG (c := (nI 1)) (lv' := fun y6 => [(0, .ref (Z.2.2.2 18)), (1, .int v1), (2, .int v2), (3, .int v3), (4, .int y6)]) dX4_pass_40 rfl (by decide) (Nat.le_of_ble_eq_true rfl) (fun _ => rfl) (fun y6 => ?_)
        refine gf_goto hG (tgt := 3) dX4_pass_43 (by decide) ?_
        exact ih y6 t4
      · refine gf_if_eq hG (tgt := 40) dX4_pass_23 (by decide) ?_ ?_
        · exact hj5 t3
        · refine gf_aload_n hG dX4_pass_26 rfl rfl ?_
          refine gf_iload hG dX4_pass_27 rfl ?_
          refine gf_iload_n hG dX4_pass_29 rfl rfl ?_
          refine gf_iload_n hG dX4_pass_30 rfl rfl ?_
          refine tf_callV (f := fX4_sends v4 v1 v2 t3) (As := [.int v4, .int v1, .int v2]) (rest := []) (n := 3) (d' := 3) (st1 := fun r7 => [.int r7]) hC hnL (wX4_sends (gLn X) Z hC.2.2.1 v4 v1 v2 t3) dX4_pass_31 (lw_V q1391 q1393 qs35 q78 q1394) (by decide +kernel) rfl (by decide) (by decide) (Nat.le_of_ble_eq_true rfl) (fun _ => rfl) (fun r7 t8 => ?_)
          refine gf_pop hG dX4_pass_34 rfl ?_
          refine gf_iload_n hG dX4_pass_35 rfl rfl ?_
          refine gf_if_ne hG (tgt := 40) dX4_pass_36 (by decide) ?_ ?_
          · exact tf_vret hC hrt rfl dX4_pass_39
          · exact hj5 t8
    · refine gf_sub [] rfl ?_
      exact hkx t
def fX4_pass (v1 : Int32) (v2 : Int32) (v3 : Int32) (t : tSt) : Option (Unit × tSt) :=
  fX4_pass_L3 v1 v2 v3 (fun  (t9 : tSt) =>
    some ((), t9)
    ) FU (nI 0) t
set_option maxHeartbeats 4000000 in
theorem wX4_pass (l : Launch) (Z : tZ) (hj : tInj Z) (v1 : Int32) (v2 : Int32) (v3 : Int32) (t : tSt)  : ∀ (r : Unit) (t' : tSt), fX4_pass v1 v2 v3 t = some (r, t') → tCt l Z yX4_pass cX4_pass 5 none 4 [.ref (Z.2.2.2 18), .int v1, .int v2, .int v3] t none t' := by
  refine tmet (ρ := (fun _ : Unit => (none : Option Value))) (av := [.ref (Z.2.2.2 18), .int v1, .int v2, .int v3]) hj (by decide +kernel) (Nat.le_of_ble_eq_true rfl) (lv_args_cat (List.forall_mem_cons.mpr ⟨rfl, List.forall_mem_cons.mpr ⟨rfl, List.forall_mem_cons.mpr ⟨rfl, List.forall_mem_cons.mpr ⟨rfl, fun _ h => absurd h List.not_mem_nil⟩⟩⟩⟩)) ?_
  intro X hln hC hnL hrt
  subst hln
  have hG := hC.1
  show GF X (tM Z X 5 (fun _ : Unit => (none : Option Value))) _ t 0 [(0, .ref (Z.2.2.2 18)), (1, .int v1), (2, .int v2), (3, .int v3)] []
  unfold fX4_pass
  refine gf_iconst hG (nI 0) dX4_pass_0 (by decide) ?_
  refine gf_istore hG dX4_pass_1 (Nat.le_of_ble_eq_true rfl) (lv' := [(0, _), (1, _), (2, _), (3, _), (4, _)]) rfl ?_
  refine gfX4_pass_L3 hC hnL hrt v1 v2 v3 _ (fun t9 => ?_) FU (nI 0) t
  exact tf_vret hC hrt rfl dX4_pass_46
def fX4_switches (v1 : Int32) (v2 : Int32) (t : tSt) : Option (Unit × tSt) :=
  ob (fX4_at v1 (nI 7) t) (fun r1 t2 =>
  if v2 < 0 then
    jn (fun (x3 : Int32) (t4 : tSt) =>
      ob (fX4_sets v1 (nI 7) x3 t4) (fun r6 t7 =>
      some ((), t7)
      )
      ) (fun (j5 : Int32 → tSt → Option (Unit × tSt)) =>
      if (nI 1) < r1 then
        j5 (r1 - (nI 1)) t2
      else
        j5 (nI 1) t2
      )
  else
    if r1 = (nI 5) then
      ob (fX4_fails v1 (nI 4) t2) (fun r8 t9 =>
      some ((), t9)
      )
    else
      ob (fX4_sets v1 ((nI 8) + r1) (irm v2 (nI 10)) t2) (fun r10 t11 =>
      ob (fX4_sets v1 (nI 7) (r1 + (nI 1)) t11) (fun r12 t13 =>
      some ((), t13)
      )
      )
  )
set_option maxHeartbeats 4000000 in
theorem wX4_switches (l : Launch) (Z : tZ) (hj : tInj Z) (v1 : Int32) (v2 : Int32) (t : tSt)  : ∀ (r : Unit) (t' : tSt), fX4_switches v1 v2 t = some (r, t') → tCt l Z yX4_switches cX4_switches 4 none 42 [.ref (Z.2.2.2 18), .int v1, .int v2] t none t' := by
  refine tmet (ρ := (fun _ : Unit => (none : Option Value))) (av := [.ref (Z.2.2.2 18), .int v1, .int v2]) hj (by decide +kernel) (Nat.le_of_ble_eq_true rfl) (lv_args_cat (List.forall_mem_cons.mpr ⟨rfl, List.forall_mem_cons.mpr ⟨rfl, List.forall_mem_cons.mpr ⟨rfl, fun _ h => absurd h List.not_mem_nil⟩⟩⟩)) ?_
  intro X hln hC hnL hrt
  subst hln
  have hG := hC.1
  show GF X (tM Z X 4 (fun _ : Unit => (none : Option Value))) _ t 0 [(0, .ref (Z.2.2.2 18)), (1, .int v1), (2, .int v2)] []
  unfold fX4_switches
  refine gf_aload_n hG dX4_switches_0 rfl rfl ?_
  refine gf_iload_n hG dX4_switches_1 rfl rfl ?_
  refine gf_bipush hG (nI 7) dX4_switches_2 (by decide) ?_
  refine tf_callV (f := fX4_at v1 (nI 7) t) (As := [.int v1, .int (nI 7)]) (rest := []) (n := 2) (d' := 1) (st1 := fun r1 => [.int r1]) hC hnL (wX4_at (gLn X) Z hC.2.2.1 v1 (nI 7) t) dX4_switches_4 (lw_V q1376 q1378 qs33 q78 q1379) (by decide +kernel) rfl (by decide) (by decide) (Nat.le_of_ble_eq_true rfl) (fun _ => rfl) (fun r1 t2 => ?_)
  refine gf_istore_n hG dX4_switches_7 rfl (Nat.le_of_ble_eq_true rfl) (lv' := [(0, _), (1, _), (2, _), (3, _)]) rfl ?_
  refine gf_iload_n hG dX4_switches_8 rfl rfl ?_
  refine gf_if_ge hG (tgt := 34) dX4_switches_9 (by decide) ?_ ?_
  · refine gf_aload_n hG dX4_switches_12 rfl rfl ?_
    refine gf_iload_n hG dX4_switches_13 rfl rfl ?_
    refine gf_bipush hG (nI 7) dX4_switches_14 (by decide) ?_
    refine gf_iload_n hG dX4_switches_16 rfl rfl ?_
    refine gf_iconst hG (nI 1) dX4_switches_17 (by decide) ?_
    refine gf_jn (fun j_ => ∀ (x3 : Int32) (t4 : tSt), GF X (tM Z X 4 (fun _ : Unit => (none : Option Value))) (j_ x3 t4) t4 28 [] [.int x3, .int (nI 7), .int v1, .ref (Z.2.2.2 18)]) (fun x3 t4 => ?_) (fun j5 hj5 => ?_)
    · refine tf_callV (f := fX4_sets v1 (nI 7) x3 t4) (As := [.int v1, .int (nI 7), .int x3]) (rest := []) (n := 3) (d' := 1) (st1 := fun _ => []) hC hnL (wX4_sets (gLn X) Z hC.2.2.1 v1 (nI 7) x3 t4) dX4_switches_28 (lw_V q1380 q1382 qs34 q78 q1383) (by decide +kernel) rfl (by decide) (by decide) (Nat.le_of_ble_eq_true rfl) (fun _ => rfl) (fun r6 t7 => ?_)
      refine gf_goto hG (tgt := 71) dX4_switches_31 (by decide) ?_
      exact tf_vret hC hrt rfl dX4_switches_71
    · refine gf_icmp_le hG (tgt := 27) dX4_switches_18 (by decide) ?_ ?_
      · refine gf_iload_n hG dX4_switches_21 rfl rfl ?_
        refine gf_iconst hG (nI 1) dX4_switches_22 (by decide) ?_
        refine gf_isub hG dX4_switches_23 ?_
        refine gf_goto hG (tgt := 28) dX4_switches_24 (by decide) ?_
        refine gf_sub [] rfl ?_
        exact hj5 (r1 - (nI 1)) t2
      · refine gf_iconst hG (nI 1) dX4_switches_27 (by decide) ?_
        refine gf_sub [] rfl ?_
        exact hj5 (nI 1) t2
  · refine gf_iload_n hG dX4_switches_34 rfl rfl ?_
    refine gf_iconst hG (nI 5) dX4_switches_35 (by decide) ?_
    refine gf_icmp_ne hG (tgt := 48) dX4_switches_36 (by decide) ?_ ?_
    · refine gf_aload_n hG dX4_switches_39 rfl rfl ?_
      refine gf_iload_n hG dX4_switches_40 rfl rfl ?_
      refine gf_iconst hG (nI 4) dX4_switches_41 (by decide) ?_
      refine tf_callV (f := fX4_fails v1 (nI 4) t2) (As := [.int v1, .int (nI 4)]) (rest := []) (n := 2) (d' := 41) (st1 := fun _ => []) hC hnL (wX4_fails (gLn X) Z hC.2.2.1 v1 (nI 4) t2) dX4_switches_42 (lw_V q1510 q1512 qs54 q78 q1513) (by decide +kernel) rfl (by decide) (by decide) (Nat.le_of_ble_eq_true rfl) (fun _ => rfl) (fun r8 t9 => ?_)
      refine gf_goto hG (tgt := 71) dX4_switches_45 (by decide) ?_
      exact tf_vret hC hrt rfl dX4_switches_71
    · refine gf_aload_n hG dX4_switches_48 rfl rfl ?_
      refine gf_iload_n hG dX4_switches_49 rfl rfl ?_
      refine gf_bipush hG (nI 8) dX4_switches_50 (by decide) ?_
      refine gf_iload_n hG dX4_switches_52 rfl rfl ?_
      refine gf_iadd hG dX4_switches_53 ?_
      refine gf_iload_n hG dX4_switches_54 rfl rfl ?_
      refine gf_bipush hG (nI 10) dX4_switches_55 (by decide) ?_
      refine gf_irem hG dX4_switches_57 (by decide) ?_
      refine tf_callV (f := fX4_sets v1 ((nI 8) + r1) (irm v2 (nI 10)) t2) (As := [.int v1, .int ((nI 8) + r1), .int (irm v2 (nI 10))]) (rest := []) (n := 3) (d' := 1) (st1 := fun _ => []) hC hnL (wX4_sets (gLn X) Z hC.2.2.1 v1 ((nI 8) + r1) (irm v2 (nI 10)) t2) dX4_switches_58 (lw_V q1380 q1382 qs34 q78 q1383) (by decide +kernel) rfl (by decide) (by decide) (Nat.le_of_ble_eq_true rfl) (fun _ => rfl) (fun r10 t11 => ?_)
      refine gf_aload_n hG dX4_switches_61 rfl rfl ?_
      refine gf_iload_n hG dX4_switches_62 rfl rfl ?_
      refine gf_bipush hG (nI 7) dX4_switches_63 (by decide) ?_
      refine gf_iload_n hG dX4_switches_65 rfl rfl ?_
      refine gf_iconst hG (nI 1) dX4_switches_66 (by decide) ?_
      refine gf_iadd hG dX4_switches_67 ?_
      refine tf_callV (f := fX4_sets v1 (nI 7) (r1 + (nI 1)) t11) (As := [.int v1, .int (nI 7), .int (r1 + (nI 1))]) (rest := []) (n := 3) (d' := 1) (st1 := fun _ => []) hC hnL (wX4_sets (gLn X) Z hC.2.2.1 v1 (nI 7) (r1 + (nI 1)) t11) dX4_switches_68 (lw_V q1380 q1382 qs34 q78 q1383) (by decide +kernel) rfl (by decide) (by decide) (Nat.le_of_ble_eq_true rfl) (fun _ => rfl) (fun r12 t13 => ?_)
      exact tf_vret hC hrt rfl dX4_switches_71
def fX4_watches_L61 (v1 : Int32) (v3 : Int32) (v4 : Int32) (kx : tSt → Option (Unit × tSt)) : Nat → Int32 → tSt → Option (Unit × tSt)
  | 0, _, _ => none
  | k + 1, v5, t =>
    if v5 < v4 then
      ob (fX4_at v3 ((nI 52) + v5) t) (fun r12 t13 =>
      if r12 = v1 then
        some ((), t13)
      else
        letv (v5 + (nI 1)) (fun y14 =>
        fX4_watches_L61 v1 v3 v4 kx k y14 t13
        )
      )
    else
      kx t
set_option maxHeartbeats 4000000 in
theorem gfX4_watches_L61 {X : gCx} {Z : tZ} (hC : tOk X Z RX4 cX4_watches 4) (hnL : gLoc X = 6) (hrt : gRet X = none) (v1 : Int32) (v3 : Int32) (v4 : Int32)  (kx : tSt → Option (Unit × tSt)) (hkx : ∀  (t : tSt), GF X (tM Z X 6 (fun _ : Unit => (none : Option Value))) (kx t) t 89 [(0, .ref (Z.2.2.2 18)), (1, .int v1), (3, .int v3), (4, .int v4)] []) : ∀ (k : Nat) (v5 : Int32) (t : tSt), GF X (tM Z X 6 (fun _ : Unit => (none : Option Value))) (fX4_watches_L61 v1 v3 v4 kx k v5 t) t 61 [(0, .ref (Z.2.2.2 18)), (1, .int v1), (3, .int v3), (4, .int v4), (5, .int v5)] [] := by
  have hG := hC.1
  intro k
  induction k with
  | zero => intro v5 t; exact gf_none
  | succ k ih =>
    intro v5 t
    rw [fX4_watches_L61]
    refine gf_iload hG dX4_watches_61 rfl ?_
    refine gf_iload hG dX4_watches_63 rfl ?_
    refine gf_icmp_ge hG (tgt := 89) dX4_watches_65 (by decide) ?_ ?_
    · refine gf_aload_n hG dX4_watches_68 rfl rfl ?_
      refine gf_iload_n hG dX4_watches_69 rfl rfl ?_
      refine gf_bipush hG (nI 52) dX4_watches_70 (by decide) ?_
      refine gf_iload hG dX4_watches_72 rfl ?_
      refine gf_iadd hG dX4_watches_74 ?_
      refine tf_callV (f := fX4_at v3 ((nI 52) + v5) t) (As := [.int v3, .int ((nI 52) + v5)]) (rest := []) (n := 2) (d' := 1) (st1 := fun r12 => [.int r12]) hC hnL (wX4_at (gLn X) Z hC.2.2.1 v3 ((nI 52) + v5) t) dX4_watches_75 (lw_V q1376 q1378 qs33 q78 q1379) (by decide +kernel) rfl (by decide) (by decide) (Nat.le_of_ble_eq_true rfl) (fun _ => rfl) (fun r12 t13 => ?_)
      refine gf_iload_n hG dX4_watches_78 rfl rfl ?_
      refine gf_icmp_ne hG (tgt := 83) dX4_watches_79 (by decide) ?_ ?_
      · exact tf_vret hC hrt rfl dX4_watches_82
      · refine gf_letiinc hG (c := (nI 1)) (lv' := fun y14 => [(0, .ref (Z.2.2.2 18)), (1, .int v1), (3, .int v3), (4, .int v4), (5, .int y14)]) dX4_watches_83 rfl (by decide) (Nat.le_of_ble_eq_true rfl) (fun _ => rfl) (fun y14 => ?_)
        refine gf_goto hG (tgt := 61) dX4_watches_86 (by decide) ?_
        exact ih y14 t13
    · refine gf_sub [0, 1, 2, 3] rfl ?_
      exact hkx t
def fX4_watches (v1 : Int32) (v2 : Int32) (t : tSt) : Option (Unit × tSt) :=
  jn (fun (x1 : Int32) (t2 : tSt) =>
    rv (trd t2 0 (nI 924)) (fun x4 =>
    gd (¬ x4 = 0) (
    letv ((irm x1 x4)) (fun y5 =>
    if y5 = v1 then
      some ((), t2)
    else
      ob (fX4_isLive y5 t2) (fun r6 t7 =>
      if r6 = 0 then
        ob (fX4_sends v1 (-1 : Int32) ((nI 1000) + y5) t7) (fun r8 t9 =>
        some ((), t9)
        )
      else
        ob (fX4_at y5 (nI 51) t7) (fun r10 t11 =>
        fX4_watches_L61 v1 y5 r10 (fun  (t15 : tSt) =>
          ob (fX4_sets y5 ((nI 52) + r10) v1 t15) (fun r16 t17 =>
          ob (fX4_sets y5 (nI 51) (r10 + (nI 1)) t17) (fun r18 t19 =>
          some ((), t19)
          )
          )
          ) FU (nI 0) t11
        )
      )
    )
    )
    )
    ) (fun (j3 : Int32 → tSt → Option (Unit × tSt)) =>
    if v2 < 0 then
      j3 (v2 + (nI 99)) t
    else
      j3 v2 t
    )
set_option maxHeartbeats 4000000 in
theorem wX4_watches (l : Launch) (Z : tZ) (hj : tInj Z) (v1 : Int32) (v2 : Int32) (t : tSt)  : ∀ (r : Unit) (t' : tSt), fX4_watches v1 v2 t = some (r, t') → tCt l Z yX4_watches cX4_watches 6 none 4 [.ref (Z.2.2.2 18), .int v1, .int v2] t none t' := by
  refine tmet (ρ := (fun _ : Unit => (none : Option Value))) (av := [.ref (Z.2.2.2 18), .int v1, .int v2]) hj (by decide +kernel) (Nat.le_of_ble_eq_true rfl) (lv_args_cat (List.forall_mem_cons.mpr ⟨rfl, List.forall_mem_cons.mpr ⟨rfl, List.forall_mem_cons.mpr ⟨rfl, fun _ h => absurd h List.not_mem_nil⟩⟩⟩)) ?_
  intro X hln hC hnL hrt
  subst hln
  have hG := hC.1
  show GF X (tM Z X 6 (fun _ : Unit => (none : Option Value))) _ t 0 [(0, .ref (Z.2.2.2 18)), (1, .int v1), (2, .int v2)] []
  unfold fX4_watches
  refine gf_iload_n hG dX4_watches_0 rfl rfl ?_
  refine gf_jn (fun j_ => ∀ (x1 : Int32) (t2 : tSt), GF X (tM Z X 6 (fun _ : Unit => (none : Option Value))) (j_ x1 t2) t2 12 [(0, .ref (Z.2.2.2 18)), (1, .int v1)] [.int x1]) (fun x1 t2 => ?_) (fun j3 hj3 => ?_)
  · refine gf_aload_n hG dX4_watches_12 rfl rfl ?_
    refine tf_get hC 0 dX4_watches_13 (by decide) q1287 rfl ?_
    refine gf_sipush hG (nI 924) dX4_watches_16 (by decide) ?_
    refine tf_iald hC dX4_watches_19 (by decide) (fun x4 => ?_)
    refine gf_gd (fun hnz => ?_)
    refine gf_irem hG dX4_watches_20 hnz ?_
    refine gf_letv (fun y5 hy5 => ?_)
    refine gf_istore_n hG dX4_watches_21 rfl (Nat.le_of_ble_eq_true rfl) (lv' := [(0, _), (1, _), (3, _)]) rfl ?_
    refine gf_iload_n hG dX4_watches_22 rfl rfl ?_
    refine gf_iload_n hG dX4_watches_23 rfl rfl ?_
    refine gf_icmp_ne hG (tgt := 28) dX4_watches_24 (by decide) ?_ ?_
    · exact tf_vret hC hrt rfl dX4_watches_27
    · refine gf_aload_n hG dX4_watches_28 rfl rfl ?_
      refine gf_iload_n hG dX4_watches_29 rfl rfl ?_
      refine tf_callV (f := fX4_isLive y5 t2) (As := [.int y5]) (rest := []) (n := 1) (d' := 2) (st1 := fun r6 => [.int r6]) hC hnL (wX4_isLive (gLn X) Z hC.2.2.1 y5 t2) dX4_watches_30 (lw_V q1372 q1374 qs32 q78 q1375) (by decide +kernel) rfl (by decide) (by decide) (Nat.le_of_ble_eq_true rfl) (fun _ => rfl) (fun r6 t7 => ?_)
      refine gf_if_ne hG (tgt := 49) dX4_watches_33 (by decide) ?_ ?_
      · refine gf_aload_n hG dX4_watches_36 rfl rfl ?_
        refine gf_iload_n hG dX4_watches_37 rfl rfl ?_
        refine gf_iconst hG (-1 : Int32) dX4_watches_38 (by decide) ?_
        refine gf_sipush hG (nI 1000) dX4_watches_39 (by decide) ?_
        refine gf_iload_n hG dX4_watches_42 rfl rfl ?_
        refine gf_iadd hG dX4_watches_43 ?_
        refine tf_callV (f := fX4_sends v1 (-1 : Int32) ((nI 1000) + y5) t7) (As := [.int v1, .int (-1 : Int32), .int ((nI 1000) + y5)]) (rest := []) (n := 3) (d' := 3) (st1 := fun r8 => [.int r8]) hC hnL (wX4_sends (gLn X) Z hC.2.2.1 v1 (-1 : Int32) ((nI 1000) + y5) t7) dX4_watches_44 (lw_V q1391 q1393 qs35 q78 q1394) (by decide +kernel) rfl (by decide) (by decide) (Nat.le_of_ble_eq_true rfl) (fun _ => rfl) (fun r8 t9 => ?_)
        refine gf_pop hG dX4_watches_47 rfl ?_
        exact tf_vret hC hrt rfl dX4_watches_48
      · refine gf_aload_n hG dX4_watches_49 rfl rfl ?_
        refine gf_iload_n hG dX4_watches_50 rfl rfl ?_
        refine gf_bipush hG (nI 51) dX4_watches_51 (by decide) ?_
        refine tf_callV (f := fX4_at y5 (nI 51) t7) (As := [.int y5, .int (nI 51)]) (rest := []) (n := 2) (d' := 1) (st1 := fun r10 => [.int r10]) hC hnL (wX4_at (gLn X) Z hC.2.2.1 y5 (nI 51) t7) dX4_watches_53 (lw_V q1376 q1378 qs33 q78 q1379) (by decide +kernel) rfl (by decide) (by decide) (Nat.le_of_ble_eq_true rfl) (fun _ => rfl) (fun r10 t11 => ?_)
        refine gf_istore hG dX4_watches_56 (Nat.le_of_ble_eq_true rfl) (lv' := [(0, _), (1, _), (3, _), (4, _)]) rfl ?_
        refine gf_iconst hG (nI 0) dX4_watches_58 (by decide) ?_
        refine gf_istore hG dX4_watches_59 (Nat.le_of_ble_eq_true rfl) (lv' := [(0, _), (1, _), (3, _), (4, _), (5, _)]) rfl ?_
        refine gfX4_watches_L61 hC hnL hrt v1 y5 r10 _ (fun t15 => ?_) FU (nI 0) t11
        refine gf_aload_n hG dX4_watches_89 rfl rfl ?_
        refine gf_iload_n hG dX4_watches_90 rfl rfl ?_
        refine gf_bipush hG (nI 52) dX4_watches_91 (by decide) ?_
        refine gf_iload hG dX4_watches_93 rfl ?_
        refine gf_iadd hG dX4_watches_95 ?_
        refine gf_iload_n hG dX4_watches_96 rfl rfl ?_
        refine tf_callV (f := fX4_sets y5 ((nI 52) + r10) v1 t15) (As := [.int y5, .int ((nI 52) + r10), .int v1]) (rest := []) (n := 3) (d' := 1) (st1 := fun _ => []) hC hnL (wX4_sets (gLn X) Z hC.2.2.1 y5 ((nI 52) + r10) v1 t15) dX4_watches_97 (lw_V q1380 q1382 qs34 q78 q1383) (by decide +kernel) rfl (by decide) (by decide) (Nat.le_of_ble_eq_true rfl) (fun _ => rfl) (fun r16 t17 => ?_)
        refine gf_aload_n hG dX4_watches_100 rfl rfl ?_
        refine gf_iload_n hG dX4_watches_101 rfl rfl ?_
        refine gf_bipush hG (nI 51) dX4_watches_102 (by decide) ?_
        refine gf_iload hG dX4_watches_104 rfl ?_
        refine gf_iconst hG (nI 1) dX4_watches_106 (by decide) ?_
        refine gf_iadd hG dX4_watches_107 ?_
        refine tf_callV (f := fX4_sets y5 (nI 51) (r10 + (nI 1)) t17) (As := [.int y5, .int (nI 51), .int (r10 + (nI 1))]) (rest := []) (n := 3) (d' := 1) (st1 := fun _ => []) hC hnL (wX4_sets (gLn X) Z hC.2.2.1 y5 (nI 51) (r10 + (nI 1)) t17) dX4_watches_108 (lw_V q1380 q1382 qs34 q78 q1383) (by decide +kernel) rfl (by decide) (by decide) (Nat.le_of_ble_eq_true rfl) (fun _ => rfl) (fun r18 t19 => ?_)
        exact tf_vret hC hrt rfl dX4_watches_111
  · refine gf_if_ge hG (tgt := 11) dX4_watches_1 (by decide) ?_ ?_
    · refine gf_iload_n hG dX4_watches_4 rfl rfl ?_
      refine gf_bipush hG (nI 99) dX4_watches_5 (by decide) ?_
      refine gf_iadd hG dX4_watches_7 ?_
      refine gf_goto hG (tgt := 12) dX4_watches_8 (by decide) ?_
      refine gf_sub [0, 1] rfl ?_
      exact hj3 (v2 + (nI 99)) t
    · refine gf_iload_n hG dX4_watches_11 rfl rfl ?_
      refine gf_sub [0, 1] rfl ?_
      exact hj3 v2 t
def fX4_deals (v1 : Int32) (v2 : Int32) (v3 : Int32) (t : tSt) : Option (Unit × tSt) :=
  ob (fX4_doing v1 t) (fun r1 t2 =>
  if v3 < (nI 1000) then
    gsw r1 [
      ((nI 0), 
        ob (fX4_at v1 (nI 6) t2) (fun r3 t4 =>
        ob (fX4_sets v1 (nI 6) (r3 + v3) t4) (fun r5 t6 =>
        some ((), t6)
        )
        )
      ),
      ((nI 1), 
        ob (fX4_pass v1 v3 (nI 0) t2) (fun r7 t8 =>
        some ((), t8)
        )
      ),
      ((nI 2), 
        if 0 < v3 then
          if v2 < 0 then
            some ((), t2)
          else
            ob (fX4_sends v2 v1 (v3 - (nI 1)) t2) (fun r9 t10 =>
            some ((), t10)
            )
        else
          some ((), t2)
      ),
      ((nI 3), 
        ob (fX4_holds v1 v2 v3 t2) (fun r11 t12 =>
        some ((), t12)
        )
      ),
      ((nI 4), 
        ob (fX4_switches v1 v3 t2) (fun r13 t14 =>
        some ((), t14)
        )
      ),
      ((nI 5), 
        ob (fX4_at v1 (nI 6) t2) (fun r15 t16 =>
        if v3 < r15 then
          ob (fX4_fails v1 (nI 1) t16) (fun r17 t18 =>
          some ((), t18)
          )
        else
          ob (fX4_sets v1 (nI 6) v3 t16) (fun r19 t20 =>
          some ((), t20)
          )
        )
      ),
      ((nI 6), 
        ob (fX4_delays v1 v3 t2) (fun r21 t22 =>
        some ((), t22)
        )
      ),
      ((nI 7), 
        ob (fX4_pass v1 v3 (nI 1) t2) (fun r23 t24 =>
        some ((), t24)
        )
      ),
      ((nI 8), 
        ob (fX4_watches v1 v3 t2) (fun r25 t26 =>
        some ((), t26)
        )
      )
    ] (
      ob (fX4_stops 13 v1 t2) (fun r27 t28 =>
      some ((), t28)
      )
    )
  else
    if r1 = (nI 5) then
      ob (fX4_fails v1 (nI 2) t2) (fun r29 t30 =>
      some ((), t30)
      )
    else
      ob (fX4_at v1 (nI 6) t2) (fun r31 t32 =>
      ob (fX4_sets v1 (nI 6) (((r31 + (nI 100)) + v3) - (nI 1000)) t32) (fun r33 t34 =>
      some ((), t34)
      )
      )
  )
set_option maxHeartbeats 4000000 in
theorem wX4_deals (l : Launch) (Z : tZ) (hj : tInj Z) (v1 : Int32) (v2 : Int32) (v3 : Int32) (t : tSt)  : ∀ (r : Unit) (t' : tSt), fX4_deals v1 v2 v3 t = some (r, t') → tCt l Z yX4_deals cX4_deals 5 none 43 [.ref (Z.2.2.2 18), .int v1, .int v2, .int v3] t none t' := by
  refine tmet (ρ := (fun _ : Unit => (none : Option Value))) (av := [.ref (Z.2.2.2 18), .int v1, .int v2, .int v3]) hj (by decide +kernel) (Nat.le_of_ble_eq_true rfl) (lv_args_cat (List.forall_mem_cons.mpr ⟨rfl, List.forall_mem_cons.mpr ⟨rfl, List.forall_mem_cons.mpr ⟨rfl, List.forall_mem_cons.mpr ⟨rfl, fun _ h => absurd h List.not_mem_nil⟩⟩⟩⟩)) ?_
  intro X hln hC hnL hrt
  subst hln
  have hG := hC.1
  show GF X (tM Z X 5 (fun _ : Unit => (none : Option Value))) _ t 0 [(0, .ref (Z.2.2.2 18)), (1, .int v1), (2, .int v2), (3, .int v3)] []
  unfold fX4_deals
  refine gf_aload_n hG dX4_deals_0 rfl rfl ?_
  refine gf_iload_n hG dX4_deals_1 rfl rfl ?_
  refine tf_callV (f := fX4_doing v1 t) (As := [.int v1]) (rest := []) (n := 1) (d' := 2) (st1 := fun r1 => [.int r1]) hC hnL (wX4_doing (gLn X) Z hC.2.2.1 v1 t) dX4_deals_2 (lw_V q1399 q1401 qs36 q78 q1402) (by decide +kernel) rfl (by decide) (by decide) (Nat.le_of_ble_eq_true rfl) (fun _ => rfl) (fun r1 t2 => ?_)
  refine gf_istore hG dX4_deals_5 (Nat.le_of_ble_eq_true rfl) (lv' := [(0, _), (1, _), (2, _), (3, _), (4, _)]) rfl ?_
  refine gf_iload_n hG dX4_deals_7 rfl rfl ?_
  refine gf_sipush hG (nI 1000) dX4_deals_8 (by decide) ?_
  refine gf_icmp_lt hG (tgt := 53) dX4_deals_11 (by decide) ?_ ?_
  · refine gf_iload hG dX4_deals_53 rfl ?_
    refine gf_tsw hG (dt := 232) dX4_deals_55 (by decide) (by decide) ⟨⟨by decide, 104, by decide, ?_⟩, ⟨by decide, 123, by decide, ?_⟩, ⟨by decide, 133, by decide, ?_⟩, ⟨by decide, 154, by decide, ?_⟩, ⟨by decide, 164, by decide, ?_⟩, ⟨by decide, 173, by decide, ?_⟩, ⟨by decide, 204, by decide, ?_⟩, ⟨by decide, 213, by decide, ?_⟩, ⟨by decide, 223, by decide, ?_⟩, trivial⟩ ?_
    · refine gf_aload_n hG dX4_deals_104 rfl rfl ?_
      refine gf_iload_n hG dX4_deals_105 rfl rfl ?_
      refine gf_bipush hG (nI 6) dX4_deals_106 (by decide) ?_
      refine gf_aload_n hG dX4_deals_108 rfl rfl ?_
      refine gf_iload_n hG dX4_deals_109 rfl rfl ?_
      refine gf_bipush hG (nI 6) dX4_deals_110 (by decide) ?_
      refine tf_callV (f := fX4_at v1 (nI 6) t2) (As := [.int v1, .int (nI 6)]) (rest := [.int (nI 6), .int v1, .ref (Z.2.2.2 18)]) (n := 2) (d' := 1) (st1 := fun r3 => [.int r3, .int (nI 6), .int v1, .ref (Z.2.2.2 18)]) hC hnL (wX4_at (gLn X) Z hC.2.2.1 v1 (nI 6) t2) dX4_deals_112 (lw_V q1376 q1378 qs33 q78 q1379) (by decide +kernel) rfl (by decide) (by decide) (Nat.le_of_ble_eq_true rfl) (fun _ => rfl) (fun r3 t4 => ?_)
      refine gf_iload_n hG dX4_deals_115 rfl rfl ?_
      refine gf_iadd hG dX4_deals_116 ?_
      refine tf_callV (f := fX4_sets v1 (nI 6) (r3 + v3) t4) (As := [.int v1, .int (nI 6), .int (r3 + v3)]) (rest := []) (n := 3) (d' := 1) (st1 := fun _ => []) hC hnL (wX4_sets (gLn X) Z hC.2.2.1 v1 (nI 6) (r3 + v3) t4) dX4_deals_117 (lw_V q1380 q1382 qs34 q78 q1383) (by decide +kernel) rfl (by decide) (by decide) (Nat.le_of_ble_eq_true rfl) (fun _ => rfl) (fun r5 t6 => ?_)
      refine gf_goto hG (tgt := 237) dX4_deals_120 (by decide) ?_
      exact tf_vret hC hrt rfl dX4_deals_237
    · refine gf_aload_n hG dX4_deals_123 rfl rfl ?_
      refine gf_iload_n hG dX4_deals_124 rfl rfl ?_
      refine gf_iload_n hG dX4_deals_125 rfl rfl ?_
      refine gf_iconst hG (nI 0) dX4_deals_126 (by decide) ?_
      refine tf_callV (f := fX4_pass v1 v3 (nI 0) t2) (As := [.int v1, .int v3, .int (nI 0)]) (rest := []) (n := 3) (d' := 4) (st1 := fun _ => []) hC hnL (wX4_pass (gLn X) Z hC.2.2.1 v1 v3 (nI 0) t2) dX4_deals_127 (lw_V q1526 q1528 qs58 q78 q1529) (by decide +kernel) rfl (by decide) (by decide) (Nat.le_of_ble_eq_true rfl) (fun _ => rfl) (fun r7 t8 => ?_)
      refine gf_goto hG (tgt := 237) dX4_deals_130 (by decide) ?_
      exact tf_vret hC hrt rfl dX4_deals_237
    · refine gf_iload_n hG dX4_deals_133 rfl rfl ?_
      refine gf_if_le hG (tgt := 237) dX4_deals_134 (by decide) ?_ ?_
      · refine gf_iload_n hG dX4_deals_137 rfl rfl ?_
        refine gf_if_lt hG (tgt := 237) dX4_deals_138 (by decide) ?_ ?_
        · exact tf_vret hC hrt rfl dX4_deals_237
        · refine gf_aload_n hG dX4_deals_141 rfl rfl ?_
          refine gf_iload_n hG dX4_deals_142 rfl rfl ?_
          refine gf_iload_n hG dX4_deals_143 rfl rfl ?_
          refine gf_iload_n hG dX4_deals_144 rfl rfl ?_
          refine gf_iconst hG (nI 1) dX4_deals_145 (by decide) ?_
          refine gf_isub hG dX4_deals_146 ?_
          refine tf_callV (f := fX4_sends v2 v1 (v3 - (nI 1)) t2) (As := [.int v2, .int v1, .int (v3 - (nI 1))]) (rest := []) (n := 3) (d' := 3) (st1 := fun r9 => [.int r9]) hC hnL (wX4_sends (gLn X) Z hC.2.2.1 v2 v1 (v3 - (nI 1)) t2) dX4_deals_147 (lw_V q1391 q1393 qs35 q78 q1394) (by decide +kernel) rfl (by decide) (by decide) (Nat.le_of_ble_eq_true rfl) (fun _ => rfl) (fun r9 t10 => ?_)
          refine gf_pop hG dX4_deals_150 rfl ?_
          refine gf_goto hG (tgt := 237) dX4_deals_151 (by decide) ?_
          exact tf_vret hC hrt rfl dX4_deals_237
      · exact tf_vret hC hrt rfl dX4_deals_237
    · refine gf_aload_n hG dX4_deals_154 rfl rfl ?_
      refine gf_iload_n hG dX4_deals_155 rfl rfl ?_
      refine gf_iload_n hG dX4_deals_156 rfl rfl ?_
      refine gf_iload_n hG dX4_deals_157 rfl rfl ?_
      refine tf_callV (f := fX4_holds v1 v2 v3 t2) (As := [.int v1, .int v2, .int v3]) (rest := []) (n := 3) (d' := 42) (st1 := fun _ => []) hC hnL (wX4_holds (gLn X) Z hC.2.2.1 v1 v2 v3 t2) dX4_deals_158 (lw_V q1530 q1532 qs59 q78 q1533) (by decide +kernel) rfl (by decide) (by decide) (Nat.le_of_ble_eq_true rfl) (fun _ => rfl) (fun r11 t12 => ?_)
      refine gf_goto hG (tgt := 237) dX4_deals_161 (by decide) ?_
      exact tf_vret hC hrt rfl dX4_deals_237
    · refine gf_aload_n hG dX4_deals_164 rfl rfl ?_
      refine gf_iload_n hG dX4_deals_165 rfl rfl ?_
      refine gf_iload_n hG dX4_deals_166 rfl rfl ?_
      refine tf_callV (f := fX4_switches v1 v3 t2) (As := [.int v1, .int v3]) (rest := []) (n := 2) (d' := 42) (st1 := fun _ => []) hC hnL (wX4_switches (gLn X) Z hC.2.2.1 v1 v3 t2) dX4_deals_167 (lw_V q1534 q1536 qs60 q78 q1537) (by decide +kernel) rfl (by decide) (by decide) (Nat.le_of_ble_eq_true rfl) (fun _ => rfl) (fun r13 t14 => ?_)
      refine gf_goto hG (tgt := 237) dX4_deals_170 (by decide) ?_
      exact tf_vret hC hrt rfl dX4_deals_237
    · refine gf_iload_n hG dX4_deals_173 rfl rfl ?_
      refine gf_aload_n hG dX4_deals_174 rfl rfl ?_
      refine gf_iload_n hG dX4_deals_175 rfl rfl ?_
      refine gf_bipush hG (nI 6) dX4_deals_176 (by decide) ?_
      refine tf_callV (f := fX4_at v1 (nI 6) t2) (As := [.int v1, .int (nI 6)]) (rest := [.int v3]) (n := 2) (d' := 1) (st1 := fun r15 => [.int r15, .int v3]) hC hnL (wX4_at (gLn X) Z hC.2.2.1 v1 (nI 6) t2) dX4_deals_178 (lw_V q1376 q1378 qs33 q78 q1379) (by decide +kernel) rfl (by decide) (by decide) (Nat.le_of_ble_eq_true rfl) (fun _ => rfl) (fun r15 t16 => ?_)
      refine gf_icmp_ge hG (tgt := 193) dX4_deals_181 (by decide) ?_ ?_
      · refine gf_aload_n hG dX4_deals_184 rfl rfl ?_
        refine gf_iload_n hG dX4_deals_185 rfl rfl ?_
        refine gf_iconst hG (nI 1) dX4_deals_186 (by decide) ?_
        refine tf_callV (f := fX4_fails v1 (nI 1) t16) (As := [.int v1, .int (nI 1)]) (rest := []) (n := 2) (d' := 41) (st1 := fun _ => []) hC hnL (wX4_fails (gLn X) Z hC.2.2.1 v1 (nI 1) t16) dX4_deals_187 (lw_V q1510 q1512 qs54 q78 q1513) (by decide +kernel) rfl (by decide) (by decide) (Nat.le_of_ble_eq_true rfl) (fun _ => rfl) (fun r17 t18 => ?_)
        refine gf_goto hG (tgt := 237) dX4_deals_190 (by decide) ?_
        exact tf_vret hC hrt rfl dX4_deals_237
      · refine gf_aload_n hG dX4_deals_193 rfl rfl ?_
        refine gf_iload_n hG dX4_deals_194 rfl rfl ?_
        refine gf_bipush hG (nI 6) dX4_deals_195 (by decide) ?_
        refine gf_iload_n hG dX4_deals_197 rfl rfl ?_
        refine tf_callV (f := fX4_sets v1 (nI 6) v3 t16) (As := [.int v1, .int (nI 6), .int v3]) (rest := []) (n := 3) (d' := 1) (st1 := fun _ => []) hC hnL (wX4_sets (gLn X) Z hC.2.2.1 v1 (nI 6) v3 t16) dX4_deals_198 (lw_V q1380 q1382 qs34 q78 q1383) (by decide +kernel) rfl (by decide) (by decide) (Nat.le_of_ble_eq_true rfl) (fun _ => rfl) (fun r19 t20 => ?_)
        refine gf_goto hG (tgt := 237) dX4_deals_201 (by decide) ?_
        exact tf_vret hC hrt rfl dX4_deals_237
    · refine gf_aload_n hG dX4_deals_204 rfl rfl ?_
      refine gf_iload_n hG dX4_deals_205 rfl rfl ?_
      refine gf_iload_n hG dX4_deals_206 rfl rfl ?_
      refine tf_callV (f := fX4_delays v1 v3 t2) (As := [.int v1, .int v3]) (rest := []) (n := 2) (d' := 1) (st1 := fun _ => []) hC hnL (wX4_delays (gLn X) Z hC.2.2.1 v1 v3 t2) dX4_deals_207 (lw_V q1538 q1540 qs61 q78 q1541) (by decide +kernel) rfl (by decide) (by decide) (Nat.le_of_ble_eq_true rfl) (fun _ => rfl) (fun r21 t22 => ?_)
      refine gf_goto hG (tgt := 237) dX4_deals_210 (by decide) ?_
      exact tf_vret hC hrt rfl dX4_deals_237
    · refine gf_aload_n hG dX4_deals_213 rfl rfl ?_
      refine gf_iload_n hG dX4_deals_214 rfl rfl ?_
      refine gf_iload_n hG dX4_deals_215 rfl rfl ?_
      refine gf_iconst hG (nI 1) dX4_deals_216 (by decide) ?_
      refine tf_callV (f := fX4_pass v1 v3 (nI 1) t2) (As := [.int v1, .int v3, .int (nI 1)]) (rest := []) (n := 3) (d' := 4) (st1 := fun _ => []) hC hnL (wX4_pass (gLn X) Z hC.2.2.1 v1 v3 (nI 1) t2) dX4_deals_217 (lw_V q1526 q1528 qs58 q78 q1529) (by decide +kernel) rfl (by decide) (by decide) (Nat.le_of_ble_eq_true rfl) (fun _ => rfl) (fun r23 t24 => ?_)
      refine gf_goto hG (tgt := 237) dX4_deals_220 (by decide) ?_
      exact tf_vret hC hrt rfl dX4_deals_237
    · refine gf_aload_n hG dX4_deals_223 rfl rfl ?_
      refine gf_iload_n hG dX4_deals_224 rfl rfl ?_
      refine gf_iload_n hG dX4_deals_225 rfl rfl ?_
      refine tf_callV (f := fX4_watches v1 v3 t2) (As := [.int v1, .int v3]) (rest := []) (n := 2) (d' := 4) (st1 := fun _ => []) hC hnL (wX4_watches (gLn X) Z hC.2.2.1 v1 v3 t2) dX4_deals_226 (lw_V q1542 q1544 qs62 q78 q1545) (by decide +kernel) rfl (by decide) (by decide) (Nat.le_of_ble_eq_true rfl) (fun _ => rfl) (fun r25 t26 => ?_)
      refine gf_goto hG (tgt := 237) dX4_deals_229 (by decide) ?_
      exact tf_vret hC hrt rfl dX4_deals_237
    · refine gf_aload_n hG dX4_deals_232 rfl rfl ?_
      refine gf_iload_n hG dX4_deals_233 rfl rfl ?_
      refine tf_callV (f := fX4_stops 13 v1 t2) (As := [.int v1]) (rest := []) (n := 1) (d' := 38) (st1 := fun _ => []) hC hnL (wX4_stops 13 (gLn X) Z hC.2.2.1 v1 t2) dX4_deals_234 (lw_V q1455 q1457 qs42 q78 q1458) (by decide +kernel) rfl (by decide) (by decide) (Nat.le_of_ble_eq_true rfl) (fun _ => rfl) (fun r27 t28 => ?_)
      exact tf_vret hC hrt rfl dX4_deals_237
  · refine gf_iload hG dX4_deals_14 rfl ?_
    refine gf_iconst hG (nI 5) dX4_deals_16 (by decide) ?_
    refine gf_icmp_ne hG (tgt := 29) dX4_deals_17 (by decide) ?_ ?_
    · refine gf_aload_n hG dX4_deals_20 rfl rfl ?_
      refine gf_iload_n hG dX4_deals_21 rfl rfl ?_
      refine gf_iconst hG (nI 2) dX4_deals_22 (by decide) ?_
      refine tf_callV (f := fX4_fails v1 (nI 2) t2) (As := [.int v1, .int (nI 2)]) (rest := []) (n := 2) (d' := 41) (st1 := fun _ => []) hC hnL (wX4_fails (gLn X) Z hC.2.2.1 v1 (nI 2) t2) dX4_deals_23 (lw_V q1510 q1512 qs54 q78 q1513) (by decide +kernel) rfl (by decide) (by decide) (Nat.le_of_ble_eq_true rfl) (fun _ => rfl) (fun r29 t30 => ?_)
      refine gf_goto hG (tgt := 52) dX4_deals_26 (by decide) ?_
      exact tf_vret hC hrt rfl dX4_deals_52
    · refine gf_aload_n hG dX4_deals_29 rfl rfl ?_
      refine gf_iload_n hG dX4_deals_30 rfl rfl ?_
      refine gf_bipush hG (nI 6) dX4_deals_31 (by decide) ?_
      refine gf_aload_n hG dX4_deals_33 rfl rfl ?_
      refine gf_iload_n hG dX4_deals_34 rfl rfl ?_
      refine gf_bipush hG (nI 6) dX4_deals_35 (by decide) ?_
      refine tf_callV (f := fX4_at v1 (nI 6) t2) (As := [.int v1, .int (nI 6)]) (rest := [.int (nI 6), .int v1, .ref (Z.2.2.2 18)]) (n := 2) (d' := 1) (st1 := fun r31 => [.int r31, .int (nI 6), .int v1, .ref (Z.2.2.2 18)]) hC hnL (wX4_at (gLn X) Z hC.2.2.1 v1 (nI 6) t2) dX4_deals_37 (lw_V q1376 q1378 qs33 q78 q1379) (by decide +kernel) rfl (by decide) (by decide) (Nat.le_of_ble_eq_true rfl) (fun _ => rfl) (fun r31 t32 => ?_)
      refine gf_bipush hG (nI 100) dX4_deals_40 (by decide) ?_
      refine gf_iadd hG dX4_deals_42 ?_
      refine gf_iload_n hG dX4_deals_43 rfl rfl ?_
      refine gf_iadd hG dX4_deals_44 ?_
      refine gf_sipush hG (nI 1000) dX4_deals_45 (by decide) ?_
      refine gf_isub hG dX4_deals_48 ?_
      refine tf_callV (f := fX4_sets v1 (nI 6) (((r31 + (nI 100)) + v3) - (nI 1000)) t32) (As := [.int v1, .int (nI 6), .int (((r31 + (nI 100)) + v3) - (nI 1000))]) (rest := []) (n := 3) (d' := 1) (st1 := fun _ => []) hC hnL (wX4_sets (gLn X) Z hC.2.2.1 v1 (nI 6) (((r31 + (nI 100)) + v3) - (nI 1000)) t32) dX4_deals_49 (lw_V q1380 q1382 qs34 q78 q1383) (by decide +kernel) rfl (by decide) (by decide) (Nat.le_of_ble_eq_true rfl) (fun _ => rfl) (fun r33 t34 => ?_)
      exact tf_vret hC hrt rfl dX4_deals_52
def fX4_firstTimer_L5  (kx : Int32 → tSt → Option (Int32 × tSt)) : Nat → Int32 → Int32 → tSt → Option (Int32 × tSt)
  | 0, _, _, _ => none
  | k + 1, v1, v2, t =>
    rv (trd t 0 (nI 931)) (fun x1 =>
    if v2 < x1 then
      jn (fun (x2 : Int32) (t3 : tSt) =>
        letv (v2 + (nI 1)) (fun y5 =>
        fX4_firstTimer_L5 kx k x2 y5 t3
        )
        ) (fun (j4 : Int32 → tSt → Option (Int32 × tSt)) =>
        jn (fun  (t6 : tSt) =>
          j4 v2 t6
          ) (fun (j7 : tSt → Option (Int32 × tSt)) =>
          if v1 < 0 then
            j7 t
          else
            rv (trd t 0 (((nI 932) + ((nI 3) * v2)) + (nI 1))) (fun x8 =>
            rv (trd t 0 (((nI 932) + ((nI 3) * v1)) + (nI 1))) (fun x9 =>
            if x8 < x9 then
              j7 t
            else
              j4 v1 t
            )
            )
          )
        )
    else
      kx v1 t
    )
set_option maxHeartbeats 4000000 in
theorem gfX4_firstTimer_L5 {X : gCx} {Z : tZ} (hC : tOk X Z RX4 cX4_firstTimer 1) (hnL : gLoc X = 3) (hrt : gRet X = (some .int))   (kx : Int32 → tSt → Option (Int32 × tSt)) (hkx : ∀ (v1 : Int32) (t : tSt), GF X (tM Z X 3 (fun x : Int32 => some (Value.int x))) (kx v1 t) t 64 [(1, .int v1)] []) : ∀ (k : Nat) (v1 : Int32) (v2 : Int32) (t : tSt), GF X (tM Z X 3 (fun x : Int32 => some (Value.int x))) (fX4_firstTimer_L5 kx k v1 v2 t) t 5 [(0, .ref (Z.2.2.2 18)), (1, .int v1), (2, .int v2)] [] := by
  have hG := hC.1
  intro k
  induction k with
  | zero => intro v1 v2 t; exact gf_none
  | succ k ih =>
    intro v1 v2 t
    rw [fX4_firstTimer_L5]
    refine gf_iload_n hG dX4_firstTimer_5 rfl rfl ?_
    refine gf_aload_n hG dX4_firstTimer_6 rfl rfl ?_
    refine tf_get hC 0 dX4_firstTimer_7 (by decide) q1287 rfl ?_
    refine gf_sipush hG (nI 931) dX4_firstTimer_10 (by decide) ?_
    refine tf_iald hC dX4_firstTimer_13 (by decide) (fun x1 => ?_)
    refine gf_icmp_ge hG (tgt := 64) dX4_firstTimer_14 (by decide) ?_ ?_
    · refine gf_iload_n hG dX4_firstTimer_17 rfl rfl ?_
      refine gf_jn (fun j_ => ∀ (x2 : Int32) (t3 : tSt), GF X (tM Z X 3 (fun x : Int32 => some (Value.int x))) (j_ x2 t3) t3 57 [(0, .ref (Z.2.2.2 18)), (2, .int v2)] [.int x2]) (fun x2 t3 => ?_) (fun j4 hj4 => ?_)
      · refine gf_istore_n hG dX4_firstTimer_57 rfl (Nat.le_of_ble_eq_true rfl) (lv' := [(0, _), (1, _), (2, _)]) rfl ?_
        refine gf_letiinc hG (c := (nI 1)) (lv' := fun y5 => [(0, .ref (Z.2.2.2 18)), (1, .int x2), (2, .int y5)]) dX4_firstTimer_58 rfl (by decide) (Nat.le_of_ble_eq_true rfl) (fun _ => rfl) (fun y5 => ?_)
        refine gf_goto hG (tgt := 5) dX4_firstTimer_61 (by decide) ?_
        exact ih x2 y5 t3
      · refine gf_jn (fun j_ => ∀  (t6 : tSt), GF X (tM Z X 3 (fun x : Int32 => some (Value.int x))) (j_ t6) t6 52 [(0, .ref (Z.2.2.2 18)), (2, .int v2)] []) (fun t6 => ?_) (fun j7 hj7 => ?_)
        · refine gf_iload_n hG dX4_firstTimer_52 rfl rfl ?_
          refine gf_goto hG (tgt := 57) dX4_firstTimer_53 (by decide) ?_
          exact hj4 v2 t6
        · refine gf_if_lt hG (tgt := 52) dX4_firstTimer_18 (by decide) ?_ ?_
          · refine gf_sub [0, 2] rfl ?_
            exact hj7 t
          · refine gf_aload_n hG dX4_firstTimer_21 rfl rfl ?_
            refine tf_get hC 0 dX4_firstTimer_22 (by decide) q1287 rfl ?_
            refine gf_sipush hG (nI 932) dX4_firstTimer_25 (by decide) ?_
            refine gf_iconst hG (nI 3) dX4_firstTimer_28 (by decide) ?_
            refine gf_iload_n hG dX4_firstTimer_29 rfl rfl ?_
            refine gf_imul hG dX4_firstTimer_30 ?_
            refine gf_iadd hG dX4_firstTimer_31 ?_
            refine gf_iconst hG (nI 1) dX4_firstTimer_32 (by decide) ?_
            refine gf_iadd hG dX4_firstTimer_33 ?_
            refine tf_iald hC dX4_firstTimer_34 (by decide) (fun x8 => ?_)
            refine gf_aload_n hG dX4_firstTimer_35 rfl rfl ?_
            refine tf_get hC 0 dX4_firstTimer_36 (by decide) q1287 rfl ?_
            refine gf_sipush hG (nI 932) dX4_firstTimer_39 (by decide) ?_
            refine gf_iconst hG (nI 3) dX4_firstTimer_42 (by decide) ?_
            refine gf_iload_n hG dX4_firstTimer_43 rfl rfl ?_
            refine gf_imul hG dX4_firstTimer_44 ?_
            refine gf_iadd hG dX4_firstTimer_45 ?_
            refine gf_iconst hG (nI 1) dX4_firstTimer_46 (by decide) ?_
            refine gf_iadd hG dX4_firstTimer_47 ?_
            refine tf_iald hC dX4_firstTimer_48 (by decide) (fun x9 => ?_)
            refine gf_icmp_ge hG (tgt := 56) dX4_firstTimer_49 (by decide) ?_ ?_
            · refine gf_sub [0, 2] rfl ?_
              exact hj7 t
            · refine gf_iload_n hG dX4_firstTimer_56 rfl rfl ?_
              refine gf_sub [0, 2] rfl ?_
              exact hj4 v1 t
    · refine gf_sub [1] rfl ?_
      exact hkx v1 t
def fX4_firstTimer  (t : tSt) : Option (Int32 × tSt) :=
  fX4_firstTimer_L5 (fun (v1_10 : Int32) (t11 : tSt) =>
    some (v1_10, t11)
    ) FU (-2 : Int32) (nI 0) t
set_option maxHeartbeats 4000000 in
theorem wX4_firstTimer (l : Launch) (Z : tZ) (hj : tInj Z)  (t : tSt)  : ∀ (r : Int32) (t' : tSt), fX4_firstTimer t = some (r, t') → tCt l Z yX4_firstTimer cX4_firstTimer 3 (some .int) 1 [.ref (Z.2.2.2 18)] t (some (.int r)) t' := by
  refine tmet (ρ := (fun x : Int32 => some (Value.int x))) (av := [.ref (Z.2.2.2 18)]) hj (by decide +kernel) (Nat.le_of_ble_eq_true rfl) (lv_args_cat (List.forall_mem_cons.mpr ⟨rfl, fun _ h => absurd h List.not_mem_nil⟩)) ?_
  intro X hln hC hnL hrt
  subst hln
  have hG := hC.1
  show GF X (tM Z X 3 (fun x : Int32 => some (Value.int x))) _ t 0 [(0, .ref (Z.2.2.2 18))] []
  unfold fX4_firstTimer
  refine gf_bipush hG (-2 : Int32) dX4_firstTimer_0 (by decide) ?_
  refine gf_istore_n hG dX4_firstTimer_2 rfl (Nat.le_of_ble_eq_true rfl) (lv' := [(0, _), (1, _)]) rfl ?_
  refine gf_iconst hG (nI 0) dX4_firstTimer_3 (by decide) ?_
  refine gf_istore_n hG dX4_firstTimer_4 rfl (Nat.le_of_ble_eq_true rfl) (lv' := [(0, _), (1, _), (2, _)]) rfl ?_
  refine gfX4_firstTimer_L5 hC hnL hrt  _ (fun v1_10 t11 => ?_) FU (-2 : Int32) (nI 0) t
  refine gf_iload_n hG dX4_firstTimer_64 rfl rfl ?_
  exact tf_ret hC hrt rfl rfl dX4_firstTimer_65
def fX4_toldAs (v0 : Int32) (t : tSt) : Option (Int32 × tSt) :=
  if v0 < (nI 1000) then
    some (v0, t)
  else
    some ((((nI 200) + v0) - (nI 1000)), t)
set_option maxHeartbeats 4000000 in
theorem wX4_toldAs (l : Launch) (Z : tZ) (hj : tInj Z) (v0 : Int32) (t : tSt)  : ∀ (r : Int32) (t' : tSt), fX4_toldAs v0 t = some (r, t') → tCt l Z yX4_toldAs cX4_toldAs 1 (some .int) 1 [.int v0] t (some (.int r)) t' := by
  refine tmet (ρ := (fun x : Int32 => some (Value.int x))) (av := [.int v0]) hj (by decide +kernel) (Nat.le_of_ble_eq_true rfl) (lv_args_cat (List.forall_mem_cons.mpr ⟨rfl, fun _ h => absurd h List.not_mem_nil⟩)) ?_
  intro X hln hC hnL hrt
  subst hln
  have hG := hC.1
  show GF X (tM Z X 1 (fun x : Int32 => some (Value.int x))) _ t 0 [(0, .int v0)] []
  unfold fX4_toldAs
  refine gf_iload_n hG dX4_toldAs_0 rfl rfl ?_
  refine gf_sipush hG (nI 1000) dX4_toldAs_1 (by decide) ?_
  refine gf_icmp_lt hG (tgt := 19) dX4_toldAs_4 (by decide) ?_ ?_
  · refine gf_iload_n hG dX4_toldAs_19 rfl rfl ?_
    exact tf_ret hC hrt rfl rfl dX4_toldAs_20
  · refine gf_sipush hG (nI 200) dX4_toldAs_7 (by decide) ?_
    refine gf_iload_n hG dX4_toldAs_10 rfl rfl ?_
    refine gf_iadd hG dX4_toldAs_11 ?_
    refine gf_sipush hG (nI 1000) dX4_toldAs_12 (by decide) ?_
    refine gf_isub hG dX4_toldAs_15 ?_
    refine gf_goto hG (tgt := 20) dX4_toldAs_16 (by decide) ?_
    exact tf_ret hC hrt rfl rfl dX4_toldAs_20
def fX4_logs_L15 (v1 : Int32) (v2 : Int32) (kx : tSt → Option (Unit × tSt)) : Nat → Int32 → tSt → Option (Unit × tSt)
  | 0, _, _ => none
  | k + 1, v3, t =>
    if v3 < (nI 30) then
      rv (trd t 0 ((nI 963) + v3)) (fun x11 =>
      rv (twr t 0 (((nI 963) + v3) - (nI 1)) x11) (fun t12 =>
      letv (v3 + (nI 1)) (fun y13 =>
      fX4_logs_L15 v1 v2 kx k y13 t12
      )
      )
      )
    else
      kx t
set_option maxHeartbeats 4000000 in
theorem gfX4_logs_L15 {X : gCx} {Z : tZ} (hC : tOk X Z RX4 cX4_logs 2) (hnL : gLoc X = 4) (hrt : gRet X = none) (v1 : Int32) (v2 : Int32)  (kx : tSt → Option (Unit × tSt)) (hkx : ∀  (t : tSt), GF X (tM Z X 4 (fun _ : Unit => (none : Option Value))) (kx t) t 49 [(0, .ref (Z.2.2.2 18)), (1, .int v1), (2, .int v2)] []) : ∀ (k : Nat) (v3 : Int32) (t : tSt), GF X (tM Z X 4 (fun _ : Unit => (none : Option Value))) (fX4_logs_L15 v1 v2 kx k v3 t) t 15 [(0, .ref (Z.2.2.2 18)), (1, .int v1), (2, .int v2), (3, .int v3)] [] := by
  have hG := hC.1
  intro k
  induction k with
  | zero => intro v3 t; exact gf_none
  | succ k ih =>
    intro v3 t
    rw [fX4_logs_L15]
    refine gf_iload_n hG dX4_logs_15 rfl rfl ?_
    refine gf_bipush hG (nI 30) dX4_logs_16 (by decide) ?_
    refine gf_icmp_ge hG (tgt := 49) dX4_logs_18 (by decide) ?_ ?_
    · refine gf_aload_n hG dX4_logs_21 rfl rfl ?_
      refine tf_get hC 0 dX4_logs_22 (by decide) q1287 rfl ?_
      refine gf_sipush hG (nI 963) dX4_logs_25 (by decide) ?_
      refine gf_iload_n hG dX4_logs_28 rfl rfl ?_
      refine gf_iadd hG dX4_logs_29 ?_
      refine gf_iconst hG (nI 1) dX4_logs_30 (by decide) ?_
      refine gf_isub hG dX4_logs_31 ?_
      refine gf_aload_n hG dX4_logs_32 rfl rfl ?_
      refine tf_get hC 0 dX4_logs_33 (by decide) q1287 rfl ?_
      refine gf_sipush hG (nI 963) dX4_logs_36 (by decide) ?_
      refine gf_iload_n hG dX4_logs_39 rfl rfl ?_
      refine gf_iadd hG dX4_logs_40 ?_
      refine tf_iald hC dX4_logs_41 (by decide) (fun x11 => ?_)
      refine tf_iast hC dX4_logs_42 (by decide) (fun t12 => ?_)
      refine gf_letiinc hG (c := (nI 1)) (lv' := fun y13 => [(0, .ref (Z.2.2.2 18)), (1, .int v1), (2, .int v2), (3, .int y13)]) dX4_logs_43 rfl (by decide) (Nat.le_of_ble_eq_true rfl) (fun _ => rfl) (fun y13 => ?_)
      refine gf_goto hG (tgt := 15) dX4_logs_46 (by decide) ?_
      exact ih y13 t12
    · refine gf_sub [0, 1, 2] rfl ?_
      exact hkx t
def fX4_logs (v1 : Int32) (v2 : Int32) (t : tSt) : Option (Unit × tSt) :=
  rv (trd t 0 (nI 962)) (fun x1 =>
  jn (fun  (t2 : tSt) =>
    ob (fX4_toldAs v2 t2) (fun r4 t5 =>
    letv (tup t5 18 7 ((((nI 1000) * v1) + r4) + (nI 300))) (fun t6 =>
    rv (trd t6 0 (nI 962)) (fun x7 =>
    rv (twr t6 0 ((nI 963) + x7) (t6 18 7)) (fun t8 =>
    rv (trd t8 0 (nI 962)) (fun x9 =>
    rv (twr t8 0 (nI 962) (x9 + (nI 1))) (fun t10 =>
    some ((), t10)
    )
    )
    )
    )
    )
    )
    ) (fun (j3 : tSt → Option (Unit × tSt)) =>
    if x1 = (nI 30) then
      fX4_logs_L15 v1 v2 (fun  (t14 : tSt) =>
        rv (trd t14 0 (nI 962)) (fun x15 =>
        rv (twr t14 0 (nI 962) (x15 - (nI 1))) (fun t16 =>
        j3 t16
        )
        )
        ) FU (nI 1) t
    else
      j3 t
    )
  )
set_option maxHeartbeats 4000000 in
theorem wX4_logs (l : Launch) (Z : tZ) (hj : tInj Z) (v1 : Int32) (v2 : Int32) (t : tSt)  : ∀ (r : Unit) (t' : tSt), fX4_logs v1 v2 t = some (r, t') → tCt l Z yX4_logs cX4_logs 4 none 2 [.ref (Z.2.2.2 18), .int v1, .int v2] t none t' := by
  refine tmet (ρ := (fun _ : Unit => (none : Option Value))) (av := [.ref (Z.2.2.2 18), .int v1, .int v2]) hj (by decide +kernel) (Nat.le_of_ble_eq_true rfl) (lv_args_cat (List.forall_mem_cons.mpr ⟨rfl, List.forall_mem_cons.mpr ⟨rfl, List.forall_mem_cons.mpr ⟨rfl, fun _ h => absurd h List.not_mem_nil⟩⟩⟩)) ?_
  intro X hln hC hnL hrt
  subst hln
  have hG := hC.1
  show GF X (tM Z X 4 (fun _ : Unit => (none : Option Value))) _ t 0 [(0, .ref (Z.2.2.2 18)), (1, .int v1), (2, .int v2)] []
  unfold fX4_logs
  refine gf_aload_n hG dX4_logs_0 rfl rfl ?_
  refine tf_get hC 0 dX4_logs_1 (by decide) q1287 rfl ?_
  refine gf_sipush hG (nI 962) dX4_logs_4 (by decide) ?_
  refine tf_iald hC dX4_logs_7 (by decide) (fun x1 => ?_)
  refine gf_bipush hG (nI 30) dX4_logs_8 (by decide) ?_
  refine gf_jn (fun j_ => ∀  (t2 : tSt), GF X (tM Z X 4 (fun _ : Unit => (none : Option Value))) (j_ t2) t2 61 [(0, .ref (Z.2.2.2 18)), (1, .int v1), (2, .int v2)] []) (fun t2 => ?_) (fun j3 hj3 => ?_)
  · refine gf_aload_n hG dX4_logs_61 rfl rfl ?_
    refine gf_sipush hG (nI 1000) dX4_logs_62 (by decide) ?_
    refine gf_iload_n hG dX4_logs_65 rfl rfl ?_
    refine gf_imul hG dX4_logs_66 ?_
    refine gf_iload_n hG dX4_logs_67 rfl rfl ?_
    refine tf_callS (f := fX4_toldAs v2 t2) (As := [.int v2]) (rest := [.int ((nI 1000) * v1), .ref (Z.2.2.2 18)]) (n := 1) (d' := 1) (st1 := fun r4 => [.int r4, .int ((nI 1000) * v1), .ref (Z.2.2.2 18)]) hC hnL (wX4_toldAs (gLn X) Z hC.2.2.1 v2 t2) dX4_logs_68 (lw_S q1503 q1504 q78 q1505) (by decide +kernel) rfl (by decide) (by decide) (Nat.le_of_ble_eq_true rfl) (fun _ => rfl) (fun r4 t5 => ?_)
    refine gf_iadd hG dX4_logs_71 ?_
    refine gf_sipush hG (nI 300) dX4_logs_72 (by decide) ?_
    refine gf_iadd hG dX4_logs_75 ?_
    refine tf_put hC 7 dX4_logs_76 (by decide) q1294 rfl (by first | rfl | decide) (by first | rfl | decide) (fun _ => rfl) ?_
    refine gf_letS (fun t6 => ?_)
    refine gf_aload_n hG dX4_logs_79 rfl rfl ?_
    refine tf_get hC 0 dX4_logs_80 (by decide) q1287 rfl ?_
    refine gf_sipush hG (nI 963) dX4_logs_83 (by decide) ?_
    refine gf_aload_n hG dX4_logs_86 rfl rfl ?_
    refine tf_get hC 0 dX4_logs_87 (by decide) q1287 rfl ?_
    refine gf_sipush hG (nI 962) dX4_logs_90 (by decide) ?_
    refine tf_iald hC dX4_logs_93 (by decide) (fun x7 => ?_)
    refine gf_iadd hG dX4_logs_94 ?_
    refine gf_aload_n hG dX4_logs_95 rfl rfl ?_
    refine tf_get hC 7 dX4_logs_96 (by decide) q1294 rfl ?_
    refine tf_iast hC dX4_logs_99 (by decide) (fun t8 => ?_)
    refine gf_aload_n hG dX4_logs_100 rfl rfl ?_
    refine tf_get hC 0 dX4_logs_101 (by decide) q1287 rfl ?_
    refine gf_sipush hG (nI 962) dX4_logs_104 (by decide) ?_
    refine gf_dup2 hG dX4_logs_107 rfl rfl ?_
    refine tf_iald hC dX4_logs_108 (by decide) (fun x9 => ?_)
    refine gf_iconst hG (nI 1) dX4_logs_109 (by decide) ?_
    refine gf_iadd hG dX4_logs_110 ?_
    refine tf_iast hC dX4_logs_111 (by decide) (fun t10 => ?_)
    exact tf_vret hC hrt rfl dX4_logs_112
  · refine gf_icmp_ne hG (tgt := 61) dX4_logs_10 (by decide) ?_ ?_
    · refine gf_iconst hG (nI 1) dX4_logs_13 (by decide) ?_
      refine gf_istore_n hG dX4_logs_14 rfl (Nat.le_of_ble_eq_true rfl) (lv' := [(0, _), (1, _), (2, _), (3, _)]) rfl ?_
      refine gfX4_logs_L15 hC hnL hrt v1 v2 _ (fun t14 => ?_) FU (nI 1) t
      refine gf_aload_n hG dX4_logs_49 rfl rfl ?_
      refine tf_get hC 0 dX4_logs_50 (by decide) q1287 rfl ?_
      refine gf_sipush hG (nI 962) dX4_logs_53 (by decide) ?_
      refine gf_dup2 hG dX4_logs_56 rfl rfl ?_
      refine tf_iald hC dX4_logs_57 (by decide) (fun x15 => ?_)
      refine gf_iconst hG (nI 1) dX4_logs_58 (by decide) ?_
      refine gf_isub hG dX4_logs_59 ?_
      refine tf_iast hC dX4_logs_60 (by decide) (fun t16 => ?_)
      exact hj3 t16
    · exact hj3 t
def fX4_step_L185 (v3 : Int32) (v4 : Int32) (kx : tSt → Option (Unit × tSt)) : Nat → Int32 → tSt → Option (Unit × tSt)
  | 0, _, _ => none
  | k + 1, v5, t =>
    rv (trd t 0 (nI 931)) (fun x13 =>
    if v5 < ((nI 932) + ((nI 3) * x13)) then
      rv (trd t 0 (v5 + (nI 3))) (fun x14 =>
      rv (twr t 0 v5 x14) (fun t15 =>
      letv (v5 + (nI 1)) (fun y16 =>
      fX4_step_L185 v3 v4 kx k y16 t15
      )
      )
      )
    else
      kx t
    )
set_option maxHeartbeats 4000000 in
theorem gfX4_step_L185 {X : gCx} {Z : tZ} (hC : tOk X Z RX4 cX4_step 44) (hnL : gLoc X = 6) (hrt : gRet X = none) (v3 : Int32) (v4 : Int32)  (kx : tSt → Option (Unit × tSt)) (hkx : ∀  (t : tSt), GF X (tM Z X 6 (fun _ : Unit => (none : Option Value))) (kx t) t 226 [(0, .ref (Z.2.2.2 18)), (3, .int v3), (4, .int v4)] []) : ∀ (k : Nat) (v5 : Int32) (t : tSt), GF X (tM Z X 6 (fun _ : Unit => (none : Option Value))) (fX4_step_L185 v3 v4 kx k v5 t) t 185 [(0, .ref (Z.2.2.2 18)), (3, .int v3), (4, .int v4), (5, .int v5)] [] := by
  have hG := hC.1
  intro k
  induction k with
  | zero => intro v5 t; exact gf_none
  | succ k ih =>
    intro v5 t
    rw [fX4_step_L185]
    refine gf_iload hG dX4_step_185 rfl ?_
    refine gf_sipush hG (nI 932) dX4_step_187 (by decide) ?_
    refine gf_iconst hG (nI 3) dX4_step_190 (by decide) ?_
    refine gf_aload_n hG dX4_step_191 rfl rfl ?_
    refine tf_get hC 0 dX4_step_192 (by decide) q1287 rfl ?_
    refine gf_sipush hG (nI 931) dX4_step_195 (by decide) ?_
    refine tf_iald hC dX4_step_198 (by decide) (fun x13 => ?_)
    refine gf_imul hG dX4_step_199 ?_
    refine gf_iadd hG dX4_step_200 ?_
    refine gf_icmp_ge hG (tgt := 226) dX4_step_201 (by decide) ?_ ?_
    · refine gf_aload_n hG dX4_step_204 rfl rfl ?_
      refine tf_get hC 0 dX4_step_205 (by decide) q1287 rfl ?_
      refine gf_iload hG dX4_step_208 rfl ?_
      refine gf_aload_n hG dX4_step_210 rfl rfl ?_
      refine tf_get hC 0 dX4_step_211 (by decide) q1287 rfl ?_
      refine gf_iload hG dX4_step_214 rfl ?_
      refine gf_iconst hG (nI 3) dX4_step_216 (by decide) ?_
      refine gf_iadd hG dX4_step_217 ?_
      refine tf_iald hC dX4_step_218 (by decide) (fun x14 => ?_)
      refine tf_iast hC dX4_step_219 (by decide) (fun t15 => ?_)
      refine gf_letiinc hG (c := (nI 1)) (lv' := fun y16 => [(0, .ref (Z.2.2.2 18)), (3, .int v3), (4, .int v4), (5, .int y16)]) dX4_step_220 rfl (by decide) (Nat.le_of_ble_eq_true rfl) (fun _ => rfl) (fun y16 => ?_)
      refine gf_goto hG (tgt := 185) dX4_step_223 (by decide) ?_
      exact ih y16 t15
    · refine gf_sub [0, 1, 2] rfl ?_
      exact hkx t
def fX4_step_L45 (v1 : Int32) (v2 : Int32) (v3 : Int32) (v4 : Int32) (kx : tSt → Option (Unit × tSt)) : Nat → Int32 → tSt → Option (Unit × tSt)
  | 0, _, _ => none
  | k + 1, v5, t =>
    if v5 < ((nI 2) * v4) then
      ob (fX4_at v1 (((nI 14) + v5) + (nI 2)) t) (fun r27 t28 =>
      ob (fX4_sets v1 ((nI 14) + v5) r27 t28) (fun r29 t30 =>
      letv (v5 + (nI 1)) (fun y31 =>
      fX4_step_L45 v1 v2 v3 v4 kx k y31 t30
      )
      )
      )
    else
      kx t
set_option maxHeartbeats 4000000 in
theorem gfX4_step_L45 {X : gCx} {Z : tZ} (hC : tOk X Z RX4 cX4_step 44) (hnL : gLoc X = 6) (hrt : gRet X = none) (v1 : Int32) (v2 : Int32) (v3 : Int32) (v4 : Int32)  (kx : tSt → Option (Unit × tSt)) (hkx : ∀  (t : tSt), GF X (tM Z X 6 (fun _ : Unit => (none : Option Value))) (kx t) t 82 [(0, .ref (Z.2.2.2 18)), (1, .int v1), (2, .int v2), (3, .int v3), (4, .int v4)] []) : ∀ (k : Nat) (v5 : Int32) (t : tSt), GF X (tM Z X 6 (fun _ : Unit => (none : Option Value))) (fX4_step_L45 v1 v2 v3 v4 kx k v5 t) t 45 [(0, .ref (Z.2.2.2 18)), (1, .int v1), (2, .int v2), (3, .int v3), (4, .int v4), (5, .int v5)] [] := by
  have hG := hC.1
  intro k
  induction k with
  | zero => intro v5 t; exact gf_none
  | succ k ih =>
    intro v5 t
    rw [fX4_step_L45]
    refine gf_iload hG dX4_step_45 rfl ?_
    refine gf_iconst hG (nI 2) dX4_step_47 (by decide) ?_
    refine gf_iload hG dX4_step_48 rfl ?_
    refine gf_imul hG dX4_step_50 ?_
    refine gf_icmp_ge hG (tgt := 82) dX4_step_51 (by decide) ?_ ?_
    · refine gf_aload_n hG dX4_step_54 rfl rfl ?_
      refine gf_iload_n hG dX4_step_55 rfl rfl ?_
      refine gf_bipush hG (nI 14) dX4_step_56 (by decide) ?_
      refine gf_iload hG dX4_step_58 rfl ?_
      refine gf_iadd hG dX4_step_60 ?_
      refine gf_aload_n hG dX4_step_61 rfl rfl ?_
      refine gf_iload_n hG dX4_step_62 rfl rfl ?_
      refine gf_bipush hG (nI 14) dX4_step_63 (by decide) ?_
      refine gf_iload hG dX4_step_65 rfl ?_
      refine gf_iadd hG dX4_step_67 ?_
      refine gf_iconst hG (nI 2) dX4_step_68 (by decide) ?_
      refine gf_iadd hG dX4_step_69 ?_
      refine tf_callV (f := fX4_at v1 (((nI 14) + v5) + (nI 2)) t) (As := [.int v1, .int (((nI 14) + v5) + (nI 2))]) (rest := [.int ((nI 14) + v5), .int v1, .ref (Z.2.2.2 18)]) (n := 2) (d' := 1) (st1 := fun r27 => [.int r27, .int ((nI 14) + v5), .int v1, .ref (Z.2.2.2 18)]) hC hnL (wX4_at (gLn X) Z hC.2.2.1 v1 (((nI 14) + v5) + (nI 2)) t) dX4_step_70 (lw_V q1376 q1378 qs33 q78 q1379) (by decide +kernel) rfl (by decide) (by decide) (Nat.le_of_ble_eq_true rfl) (fun _ => rfl) (fun r27 t28 => ?_)
      refine tf_callV (f := fX4_sets v1 ((nI 14) + v5) r27 t28) (As := [.int v1, .int ((nI 14) + v5), .int r27]) (rest := []) (n := 3) (d' := 1) (st1 := fun _ => []) hC hnL (wX4_sets (gLn X) Z hC.2.2.1 v1 ((nI 14) + v5) r27 t28) dX4_step_73 (lw_V q1380 q1382 qs34 q78 q1383) (by decide +kernel) rfl (by decide) (by decide) (Nat.le_of_ble_eq_true rfl) (fun _ => rfl) (fun r29 t30 => ?_)
      refine gf_letiinc hG (c := (nI 1)) (lv' := fun y31 => [(0, .ref (Z.2.2.2 18)), (1, .int v1), (2, .int v2), (3, .int v3), (4, .int v4), (5, .int y31)]) dX4_step_76 rfl (by decide) (Nat.le_of_ble_eq_true rfl) (fun _ => rfl) (fun y31 => ?_)
      refine gf_goto hG (tgt := 45) dX4_step_79 (by decide) ?_
      exact ih y31 t30
    · refine gf_sub [0, 1, 2, 3, 4] rfl ?_
      exact hkx t
def fX4_step  (t : tSt) : Option (Unit × tSt) :=
  letv (tup t 18 7 (-2 : Int32)) (fun t1 =>
  ob (fX4_nextActor t1) (fun r2 t3 =>
  if r2 < 0 then
    ob (fX4_firstTimer t3) (fun r4 t5 =>
    letv (((nI 932) + ((nI 3) * r4))) (fun y6 =>
    rv (trd t5 0 y6) (fun x7 =>
    rv (trd t5 0 (y6 + (nI 2))) (fun x8 =>
    rv (trd t5 0 (y6 + (nI 1))) (fun x9 =>
    rv (twr t5 0 (nI 925) x9) (fun t10 =>
    rv (trd t10 0 (nI 931)) (fun x11 =>
    rv (twr t10 0 (nI 931) (x11 - (nI 1))) (fun t12 =>
    fX4_step_L185 x7 x8 (fun  (t17 : tSt) =>
      ob (fX4_sends x7 (-1 : Int32) x8 t17) (fun r18 t19 =>
      some ((), t19)
      )
      ) FU y6 t12
    )
    )
    )
    )
    )
    )
    )
    )
  else
    ob (fX4_at r2 (nI 14) t3) (fun r20 t21 =>
    ob (fX4_at r2 (nI 15) t21) (fun r22 t23 =>
    ob (fX4_at r2 (nI 13) t23) (fun r24 t25 =>
    letv ((r24 - (nI 1))) (fun y26 =>
    fX4_step_L45 r2 r20 r22 y26 (fun  (t32 : tSt) =>
      ob (fX4_sets r2 (nI 13) y26 t32) (fun r33 t34 =>
      rv (twr t34 0 (nI 928) r2) (fun t35 =>
      rv (trd t35 0 (nI 926)) (fun x36 =>
      rv (twr t35 0 (nI 926) (x36 + (nI 1))) (fun t37 =>
      ob (fX4_logs r2 r22 t37) (fun r38 t39 =>
      ob (fX4_deals r2 r20 r22 t39) (fun r40 t41 =>
      some ((), t41)
      )
      )
      )
      )
      )
      )
      ) FU (nI 0) t25
    )
    )
    )
    )
  )
  )
set_option maxHeartbeats 4000000 in
theorem wX4_step (l : Launch) (Z : tZ) (hj : tInj Z)  (t : tSt)  : ∀ (r : Unit) (t' : tSt), fX4_step t = some (r, t') → tCt l Z yX4_step cX4_step 6 none 44 [.ref (Z.2.2.2 18)] t none t' := by
  refine tmet (ρ := (fun _ : Unit => (none : Option Value))) (av := [.ref (Z.2.2.2 18)]) hj (by decide +kernel) (Nat.le_of_ble_eq_true rfl) (lv_args_cat (List.forall_mem_cons.mpr ⟨rfl, fun _ h => absurd h List.not_mem_nil⟩)) ?_
  intro X hln hC hnL hrt
  subst hln
  have hG := hC.1
  show GF X (tM Z X 6 (fun _ : Unit => (none : Option Value))) _ t 0 [(0, .ref (Z.2.2.2 18))] []
  unfold fX4_step
  refine gf_aload_n hG dX4_step_0 rfl rfl ?_
  refine gf_bipush hG (-2 : Int32) dX4_step_1 (by decide) ?_
  refine tf_put hC 7 dX4_step_3 (by decide) q1294 rfl (by first | rfl | decide) (by first | rfl | decide) (fun _ => rfl) ?_
  refine gf_letS (fun t1 => ?_)
  refine gf_aload_n hG dX4_step_6 rfl rfl ?_
  refine tf_callV (f := fX4_nextActor t1) (As := []) (rest := []) (n := 0) (d' := 3) (st1 := fun r2 => [.int r2]) hC hnL (wX4_nextActor (gLn X) Z hC.2.2.1 t1) dX4_step_7 (lw_V q1491 q1493 qs50 q78 q1494) (by decide +kernel) rfl (by decide) (by decide) (Nat.le_of_ble_eq_true rfl) (fun _ => rfl) (fun r2 t3 => ?_)
  refine gf_istore_n hG dX4_step_10 rfl (Nat.le_of_ble_eq_true rfl) (lv' := [(0, _), (1, _)]) rfl ?_
  refine gf_iload_n hG dX4_step_11 rfl rfl ?_
  refine gf_if_lt hG (tgt := 126) dX4_step_12 (by decide) ?_ ?_
  · refine gf_sipush hG (nI 932) dX4_step_126 (by decide) ?_
    refine gf_iconst hG (nI 3) dX4_step_129 (by decide) ?_
    refine gf_aload_n hG dX4_step_130 rfl rfl ?_
    refine tf_callV (f := fX4_firstTimer t3) (As := []) (rest := [.int (nI 3), .int (nI 932)]) (n := 0) (d' := 1) (st1 := fun r4 => [.int r4, .int (nI 3), .int (nI 932)]) hC hnL (wX4_firstTimer (gLn X) Z hC.2.2.1 t3) dX4_step_131 (lw_V q1546 q1548 qs63 q78 q1549) (by decide +kernel) rfl (by decide) (by decide) (Nat.le_of_ble_eq_true rfl) (fun _ => rfl) (fun r4 t5 => ?_)
    refine gf_imul hG dX4_step_134 ?_
    refine gf_iadd hG dX4_step_135 ?_
    refine gf_letv (fun y6 hy6 => ?_)
    refine gf_istore_n hG dX4_step_136 rfl (Nat.le_of_ble_eq_true rfl) (lv' := [(0, _), (1, _), (2, _)]) rfl ?_
    refine gf_aload_n hG dX4_step_137 rfl rfl ?_
    refine tf_get hC 0 dX4_step_138 (by decide) q1287 rfl ?_
    refine gf_iload_n hG dX4_step_141 rfl rfl ?_
    refine tf_iald hC dX4_step_142 (by decide) (fun x7 => ?_)
    refine gf_istore_n hG dX4_step_143 rfl (Nat.le_of_ble_eq_true rfl) (lv' := [(0, _), (1, _), (2, _), (3, _)]) rfl ?_
    refine gf_aload_n hG dX4_step_144 rfl rfl ?_
    refine tf_get hC 0 dX4_step_145 (by decide) q1287 rfl ?_
    refine gf_iload_n hG dX4_step_148 rfl rfl ?_
    refine gf_iconst hG (nI 2) dX4_step_149 (by decide) ?_
    refine gf_iadd hG dX4_step_150 ?_
    refine tf_iald hC dX4_step_151 (by decide) (fun x8 => ?_)
    refine gf_istore hG dX4_step_152 (Nat.le_of_ble_eq_true rfl) (lv' := [(0, _), (1, _), (2, _), (3, _), (4, _)]) rfl ?_
    refine gf_aload_n hG dX4_step_154 rfl rfl ?_
    refine tf_get hC 0 dX4_step_155 (by decide) q1287 rfl ?_
    refine gf_sipush hG (nI 925) dX4_step_158 (by decide) ?_
    refine gf_aload_n hG dX4_step_161 rfl rfl ?_
    refine tf_get hC 0 dX4_step_162 (by decide) q1287 rfl ?_
    refine gf_iload_n hG dX4_step_165 rfl rfl ?_
    refine gf_iconst hG (nI 1) dX4_step_166 (by decide) ?_
    refine gf_iadd hG dX4_step_167 ?_
    refine tf_iald hC dX4_step_168 (by decide) (fun x9 => ?_)
    refine tf_iast hC dX4_step_169 (by decide) (fun t10 => ?_)
    refine gf_aload_n hG dX4_step_170 rfl rfl ?_
    refine tf_get hC 0 dX4_step_171 (by decide) q1287 rfl ?_
    refine gf_sipush hG (nI 931) dX4_step_174 (by decide) ?_
    refine gf_dup2 hG dX4_step_177 rfl rfl ?_
    refine tf_iald hC dX4_step_178 (by decide) (fun x11 => ?_)
    refine gf_iconst hG (nI 1) dX4_step_179 (by decide) ?_
    refine gf_isub hG dX4_step_180 ?_
    refine tf_iast hC dX4_step_181 (by decide) (fun t12 => ?_)
    refine gf_iload_n hG dX4_step_182 rfl rfl ?_
    refine gf_istore hG dX4_step_183 (Nat.le_of_ble_eq_true rfl) (lv' := [(0, _), (1, _), (2, _), (3, _), (4, _), (5, _)]) rfl ?_
    refine gf_sub [0, 3, 4, 5] rfl ?_
    refine gfX4_step_L185 hC hnL hrt x7 x8 _ (fun t17 => ?_) FU y6 t12
    refine gf_aload_n hG dX4_step_226 rfl rfl ?_
    refine gf_iload_n hG dX4_step_227 rfl rfl ?_
    refine gf_iconst hG (-1 : Int32) dX4_step_228 (by decide) ?_
    refine gf_iload hG dX4_step_229 rfl ?_
    refine tf_callV (f := fX4_sends x7 (-1 : Int32) x8 t17) (As := [.int x7, .int (-1 : Int32), .int x8]) (rest := []) (n := 3) (d' := 3) (st1 := fun r18 => [.int r18]) hC hnL (wX4_sends (gLn X) Z hC.2.2.1 x7 (-1 : Int32) x8 t17) dX4_step_231 (lw_V q1391 q1393 qs35 q78 q1394) (by decide +kernel) rfl (by decide) (by decide) (Nat.le_of_ble_eq_true rfl) (fun _ => rfl) (fun r18 t19 => ?_)
    refine gf_pop hG dX4_step_234 rfl ?_
    exact tf_vret hC hrt rfl dX4_step_235
  · refine gf_aload_n hG dX4_step_15 rfl rfl ?_
    refine gf_iload_n hG dX4_step_16 rfl rfl ?_
    refine gf_bipush hG (nI 14) dX4_step_17 (by decide) ?_
    refine tf_callV (f := fX4_at r2 (nI 14) t3) (As := [.int r2, .int (nI 14)]) (rest := []) (n := 2) (d' := 1) (st1 := fun r20 => [.int r20]) hC hnL (wX4_at (gLn X) Z hC.2.2.1 r2 (nI 14) t3) dX4_step_19 (lw_V q1376 q1378 qs33 q78 q1379) (by decide +kernel) rfl (by decide) (by decide) (Nat.le_of_ble_eq_true rfl) (fun _ => rfl) (fun r20 t21 => ?_)
    refine gf_istore_n hG dX4_step_22 rfl (Nat.le_of_ble_eq_true rfl) (lv' := [(0, _), (1, _), (2, _)]) rfl ?_
    refine gf_aload_n hG dX4_step_23 rfl rfl ?_
    refine gf_iload_n hG dX4_step_24 rfl rfl ?_
    refine gf_bipush hG (nI 15) dX4_step_25 (by decide) ?_
    refine tf_callV (f := fX4_at r2 (nI 15) t21) (As := [.int r2, .int (nI 15)]) (rest := []) (n := 2) (d' := 1) (st1 := fun r22 => [.int r22]) hC hnL (wX4_at (gLn X) Z hC.2.2.1 r2 (nI 15) t21) dX4_step_27 (lw_V q1376 q1378 qs33 q78 q1379) (by decide +kernel) rfl (by decide) (by decide) (Nat.le_of_ble_eq_true rfl) (fun _ => rfl) (fun r22 t23 => ?_)
    refine gf_istore_n hG dX4_step_30 rfl (Nat.le_of_ble_eq_true rfl) (lv' := [(0, _), (1, _), (2, _), (3, _)]) rfl ?_
    refine gf_aload_n hG dX4_step_31 rfl rfl ?_
    refine gf_iload_n hG dX4_step_32 rfl rfl ?_
    refine gf_bipush hG (nI 13) dX4_step_33 (by decide) ?_
    refine tf_callV (f := fX4_at r2 (nI 13) t23) (As := [.int r2, .int (nI 13)]) (rest := []) (n := 2) (d' := 1) (st1 := fun r24 => [.int r24]) hC hnL (wX4_at (gLn X) Z hC.2.2.1 r2 (nI 13) t23) dX4_step_35 (lw_V q1376 q1378 qs33 q78 q1379) (by decide +kernel) rfl (by decide) (by decide) (Nat.le_of_ble_eq_true rfl) (fun _ => rfl) (fun r24 t25 => ?_)
    refine gf_iconst hG (nI 1) dX4_step_38 (by decide) ?_
    refine gf_isub hG dX4_step_39 ?_
    refine gf_letv (fun y26 hy26 => ?_)
    refine gf_istore hG dX4_step_40 (Nat.le_of_ble_eq_true rfl) (lv' := [(0, _), (1, _), (2, _), (3, _), (4, _)]) rfl ?_
    refine gf_iconst hG (nI 0) dX4_step_42 (by decide) ?_
    refine gf_istore hG dX4_step_43 (Nat.le_of_ble_eq_true rfl) (lv' := [(0, _), (1, _), (2, _), (3, _), (4, _), (5, _)]) rfl ?_
    refine gfX4_step_L45 hC hnL hrt r2 r20 r22 y26 _ (fun t32 => ?_) FU (nI 0) t25
    refine gf_aload_n hG dX4_step_82 rfl rfl ?_
    refine gf_iload_n hG dX4_step_83 rfl rfl ?_
    refine gf_bipush hG (nI 13) dX4_step_84 (by decide) ?_
    refine gf_iload hG dX4_step_86 rfl ?_
    refine tf_callV (f := fX4_sets r2 (nI 13) y26 t32) (As := [.int r2, .int (nI 13), .int y26]) (rest := []) (n := 3) (d' := 1) (st1 := fun _ => []) hC hnL (wX4_sets (gLn X) Z hC.2.2.1 r2 (nI 13) y26 t32) dX4_step_88 (lw_V q1380 q1382 qs34 q78 q1383) (by decide +kernel) rfl (by decide) (by decide) (Nat.le_of_ble_eq_true rfl) (fun _ => rfl) (fun r33 t34 => ?_)
    refine gf_aload_n hG dX4_step_91 rfl rfl ?_
    refine tf_get hC 0 dX4_step_92 (by decide) q1287 rfl ?_
    refine gf_sipush hG (nI 928) dX4_step_95 (by decide) ?_
    refine gf_iload_n hG dX4_step_98 rfl rfl ?_
    refine tf_iast hC dX4_step_99 (by decide) (fun t35 => ?_)
    refine gf_aload_n hG dX4_step_100 rfl rfl ?_
    refine tf_get hC 0 dX4_step_101 (by decide) q1287 rfl ?_
    refine gf_sipush hG (nI 926) dX4_step_104 (by decide) ?_
    refine gf_dup2 hG dX4_step_107 rfl rfl ?_
    refine tf_iald hC dX4_step_108 (by decide) (fun x36 => ?_)
    refine gf_iconst hG (nI 1) dX4_step_109 (by decide) ?_
    refine gf_iadd hG dX4_step_110 ?_
    refine tf_iast hC dX4_step_111 (by decide) (fun t37 => ?_)
    refine gf_aload_n hG dX4_step_112 rfl rfl ?_
    refine gf_iload_n hG dX4_step_113 rfl rfl ?_
    refine gf_iload_n hG dX4_step_114 rfl rfl ?_
    refine tf_callV (f := fX4_logs r2 r22 t37) (As := [.int r2, .int r22]) (rest := []) (n := 2) (d' := 2) (st1 := fun _ => []) hC hnL (wX4_logs (gLn X) Z hC.2.2.1 r2 r22 t37) dX4_step_115 (lw_V q1499 q1501 qs52 q78 q1502) (by decide +kernel) rfl (by decide) (by decide) (Nat.le_of_ble_eq_true rfl) (fun _ => rfl) (fun r38 t39 => ?_)
    refine gf_aload_n hG dX4_step_118 rfl rfl ?_
    refine gf_iload_n hG dX4_step_119 rfl rfl ?_
    refine gf_iload_n hG dX4_step_120 rfl rfl ?_
    refine gf_iload_n hG dX4_step_121 rfl rfl ?_
    refine tf_callV (f := fX4_deals r2 r20 r22 t39) (As := [.int r2, .int r20, .int r22]) (rest := []) (n := 3) (d' := 43) (st1 := fun _ => []) hC hnL (wX4_deals (gLn X) Z hC.2.2.1 r2 r20 r22 t39) dX4_step_122 (lw_V q1506 q1508 qs53 q78 q1509) (by decide +kernel) rfl (by decide) (by decide) (Nat.le_of_ble_eq_true rfl) (fun _ => rfl) (fun r40 t41 => ?_)
    exact tf_vret hC hrt rfl dX4_step_125
def fX4_runs_L2 (v1 : Int32) (kx : Int32 → tSt → Option (Int32 × tSt)) : Nat → Int32 → tSt → Option (Int32 × tSt)
  | 0, _, _ => none
  | k + 1, v2, t =>
    ob (fX4_isEnd v2 v1 t) (fun r1 t2 =>
    if r1 = 0 then
      ob (fX4_step t2) (fun r3 t4 =>
      letv (v2 + (nI 1)) (fun y5 =>
      fX4_runs_L2 v1 kx k y5 t4
      )
      )
    else
      kx v2 t2
    )
set_option maxHeartbeats 4000000 in
theorem gfX4_runs_L2 {X : gCx} {Z : tZ} (hC : tOk X Z RX4 cX4_runs 45) (hnL : gLoc X = 3) (hrt : gRet X = (some .int)) (v1 : Int32)  (kx : Int32 → tSt → Option (Int32 × tSt)) (hkx : ∀ (v2 : Int32) (t : tSt), GF X (tM Z X 3 (fun x : Int32 => some (Value.int x))) (kx v2 t) t 21 [(2, .int v2)] []) : ∀ (k : Nat) (v2 : Int32) (t : tSt), GF X (tM Z X 3 (fun x : Int32 => some (Value.int x))) (fX4_runs_L2 v1 kx k v2 t) t 2 [(0, .ref (Z.2.2.2 18)), (1, .int v1), (2, .int v2)] [] := by
  have hG := hC.1
  intro k
  induction k with
  | zero => intro v2 t; exact gf_none
  | succ k ih =>
    intro v2 t
    rw [fX4_runs_L2]
    refine gf_aload_n hG dX4_runs_2 rfl rfl ?_
    refine gf_iload_n hG dX4_runs_3 rfl rfl ?_
    refine gf_iload_n hG dX4_runs_4 rfl rfl ?_
    refine tf_callV (f := fX4_isEnd v2 v1 t) (As := [.int v2, .int v1]) (rest := []) (n := 2) (d' := 5) (st1 := fun r1 => [.int r1]) hC hnL (wX4_isEnd (gLn X) Z hC.2.2.1 v2 v1 t) dX4_runs_5 (lw_V q1483 q1485 qs48 q78 q1486) (by decide +kernel) rfl (by decide) (by decide) (Nat.le_of_ble_eq_true rfl) (fun _ => rfl) (fun r1 t2 => ?_)
    refine gf_if_ne hG (tgt := 21) dX4_runs_8 (by decide) ?_ ?_
    · refine gf_aload_n hG dX4_runs_11 rfl rfl ?_
      refine tf_callV (f := fX4_step t2) (As := []) (rest := []) (n := 0) (d' := 44) (st1 := fun _ => []) hC hnL (wX4_step (gLn X) Z hC.2.2.1 t2) dX4_runs_12 (lw_V q1495 q1497 qs51 q78 q1498) (by decide +kernel) rfl (by decide) (by decide) (Nat.le_of_ble_eq_true rfl) (fun _ => rfl) (fun r3 t4 => ?_)
      refine gf_letiinc hG (c := (nI 1)) (lv' := fun y5 => [(0, .ref (Z.2.2.2 18)), (1, .int v1), (2, .int y5)]) dX4_runs_15 rfl (by decide) (Nat.le_of_ble_eq_true rfl) (fun _ => rfl) (fun y5 => ?_)
      refine gf_goto hG (tgt := 2) dX4_runs_18 (by decide) ?_
      exact ih y5 t4
    · refine gf_sub [2] rfl ?_
      exact hkx v2 t2
def fX4_runs (v1 : Int32) (t : tSt) : Option (Int32 × tSt) :=
  fX4_runs_L2 v1 (fun (v2_6 : Int32) (t7 : tSt) =>
    some (v2_6, t7)
    ) FU (nI 0) t
set_option maxHeartbeats 4000000 in
theorem wX4_runs (l : Launch) (Z : tZ) (hj : tInj Z) (v1 : Int32) (t : tSt)  : ∀ (r : Int32) (t' : tSt), fX4_runs v1 t = some (r, t') → tCt l Z yX4_runs cX4_runs 3 (some .int) 45 [.ref (Z.2.2.2 18), .int v1] t (some (.int r)) t' := by
  refine tmet (ρ := (fun x : Int32 => some (Value.int x))) (av := [.ref (Z.2.2.2 18), .int v1]) hj (by decide +kernel) (Nat.le_of_ble_eq_true rfl) (lv_args_cat (List.forall_mem_cons.mpr ⟨rfl, List.forall_mem_cons.mpr ⟨rfl, fun _ h => absurd h List.not_mem_nil⟩⟩)) ?_
  intro X hln hC hnL hrt
  subst hln
  have hG := hC.1
  show GF X (tM Z X 3 (fun x : Int32 => some (Value.int x))) _ t 0 [(0, .ref (Z.2.2.2 18)), (1, .int v1)] []
  unfold fX4_runs
  refine gf_iconst hG (nI 0) dX4_runs_0 (by decide) ?_
  refine gf_istore_n hG dX4_runs_1 rfl (Nat.le_of_ble_eq_true rfl) (lv' := [(0, _), (1, _), (2, _)]) rfl ?_
  refine gfX4_runs_L2 hC hnL hrt v1 _ (fun v2_6 t7 => ?_) FU (nI 0) t
  refine gf_iload_n hG dX4_runs_21 rfl rfl ?_
  exact tf_ret hC hrt rfl rfl dX4_runs_22
def fX4_run (v1 : Int32) (t : tSt) : Option (Int32 × tSt) :=
  ob (fX4_in v1 (nI 1) (nI 200) t) (fun r1 t2 =>
  if r1 = 0 then
    some ((-1 : Int32), t2)
  else
    ob (fX4_runs v1 t2) (fun r3 t4 =>
    rv (twr t4 0 (nI 930) (t4 18 18)) (fun t5 =>
    some (r3, t5)
    )
    )
  )
set_option maxHeartbeats 4000000 in
theorem wX4_run (l : Launch) (Z : tZ) (hj : tInj Z) (v1 : Int32) (t : tSt)  : ∀ (r : Int32) (t' : tSt), fX4_run v1 t = some (r, t') → tCt l Z yX4_run cX4_run 3 (some .int) 46 [.ref (Z.2.2.2 18), .int v1] t (some (.int r)) t' := by
  refine tmet (ρ := (fun x : Int32 => some (Value.int x))) (av := [.ref (Z.2.2.2 18), .int v1]) hj (by decide +kernel) (Nat.le_of_ble_eq_true rfl) (lv_args_cat (List.forall_mem_cons.mpr ⟨rfl, List.forall_mem_cons.mpr ⟨rfl, fun _ h => absurd h List.not_mem_nil⟩⟩)) ?_
  intro X hln hC hnL hrt
  subst hln
  have hG := hC.1
  show GF X (tM Z X 3 (fun x : Int32 => some (Value.int x))) _ t 0 [(0, .ref (Z.2.2.2 18)), (1, .int v1)] []
  unfold fX4_run
  refine gf_iload_n hG dX4_run_0 rfl rfl ?_
  refine gf_iconst hG (nI 1) dX4_run_1 (by decide) ?_
  refine gf_sipush hG (nI 200) dX4_run_2 (by decide) ?_
  refine tf_callS (f := fX4_in v1 (nI 1) (nI 200) t) (As := [.int v1, .int (nI 1), .int (nI 200)]) (rest := []) (n := 3) (d' := 1) (st1 := fun r1 => [.int r1]) hC hnL (wX4_in (gLn X) Z hC.2.2.1 v1 (nI 1) (nI 200) t) dX4_run_5 (lw_S q1366 q1367 q78 q1368) (by decide +kernel) rfl (by decide) (by decide) (Nat.le_of_ble_eq_true rfl) (fun _ => rfl) (fun r1 t2 => ?_)
  refine gf_if_ne hG (tgt := 13) dX4_run_8 (by decide) ?_ ?_
  · refine gf_iconst hG (-1 : Int32) dX4_run_11 (by decide) ?_
    exact tf_ret hC hrt rfl rfl dX4_run_12
  · refine gf_aload_n hG dX4_run_13 rfl rfl ?_
    refine gf_iload_n hG dX4_run_14 rfl rfl ?_
    refine tf_callV (f := fX4_runs v1 t2) (As := [.int v1]) (rest := []) (n := 1) (d' := 45) (st1 := fun r3 => [.int r3]) hC hnL (wX4_runs (gLn X) Z hC.2.2.1 v1 t2) dX4_run_15 (lw_V q1479 q1481 qs47 q78 q1482) (by decide +kernel) rfl (by decide) (by decide) (Nat.le_of_ble_eq_true rfl) (fun _ => rfl) (fun r3 t4 => ?_)
    refine gf_istore_n hG dX4_run_18 rfl (Nat.le_of_ble_eq_true rfl) (lv' := [(0, _), (1, _), (2, _)]) rfl ?_
    refine gf_aload_n hG dX4_run_19 rfl rfl ?_
    refine tf_get hC 0 dX4_run_20 (by decide) q1287 rfl ?_
    refine gf_sipush hG (nI 930) dX4_run_23 (by decide) ?_
    refine gf_aload_n hG dX4_run_26 rfl rfl ?_
    refine tf_get hC 18 dX4_run_27 (by decide) q1305 rfl ?_
    refine tf_iast hC dX4_run_30 (by decide) (fun t5 => ?_)
    refine gf_iload_n hG dX4_run_31 rfl rfl ?_
    exact tf_ret hC hrt rfl rfl dX4_run_32
def fX4_ended  (t : tSt) : Option (Int32 × tSt) :=
  rv (trd t 0 (nI 930)) (fun x1 =>
  some (x1, t)
  )
set_option maxHeartbeats 4000000 in
theorem wX4_ended (l : Launch) (Z : tZ) (hj : tInj Z)  (t : tSt)  : ∀ (r : Int32) (t' : tSt), fX4_ended t = some (r, t') → tCt l Z yX4_ended cX4_ended 1 (some .int) 1 [.ref (Z.2.2.2 18)] t (some (.int r)) t' := by
  refine tmet (ρ := (fun x : Int32 => some (Value.int x))) (av := [.ref (Z.2.2.2 18)]) hj (by decide +kernel) (Nat.le_of_ble_eq_true rfl) (lv_args_cat (List.forall_mem_cons.mpr ⟨rfl, fun _ h => absurd h List.not_mem_nil⟩)) ?_
  intro X hln hC hnL hrt
  subst hln
  have hG := hC.1
  show GF X (tM Z X 1 (fun x : Int32 => some (Value.int x))) _ t 0 [(0, .ref (Z.2.2.2 18))] []
  unfold fX4_ended
  refine gf_aload_n hG dX4_ended_0 rfl rfl ?_
  refine tf_get hC 0 dX4_ended_1 (by decide) q1287 rfl ?_
  refine gf_sipush hG (nI 930) dX4_ended_4 (by decide) ?_
  refine tf_iald hC dX4_ended_7 (by decide) (fun x1 => ?_)
  exact tf_ret hC hrt rfl rfl dX4_ended_8
def fX4_log (v1 : Int32) (t : tSt) : Option (Int32 × tSt) :=
  if v1 < 0 then
    some ((-1 : Int32), t)
  else
    rv (trd t 0 (nI 962)) (fun x1 =>
    if v1 < x1 then
      rv (trd t 0 ((nI 963) + v1)) (fun x2 =>
      some (x2, t)
      )
    else
      some ((-2 : Int32), t)
    )
set_option maxHeartbeats 4000000 in
theorem wX4_log (l : Launch) (Z : tZ) (hj : tInj Z) (v1 : Int32) (t : tSt)  : ∀ (r : Int32) (t' : tSt), fX4_log v1 t = some (r, t') → tCt l Z yX4_log cX4_log 2 (some .int) 1 [.ref (Z.2.2.2 18), .int v1] t (some (.int r)) t' := by
  refine tmet (ρ := (fun x : Int32 => some (Value.int x))) (av := [.ref (Z.2.2.2 18), .int v1]) hj (by decide +kernel) (Nat.le_of_ble_eq_true rfl) (lv_args_cat (List.forall_mem_cons.mpr ⟨rfl, List.forall_mem_cons.mpr ⟨rfl, fun _ h => absurd h List.not_mem_nil⟩⟩)) ?_
  intro X hln hC hnL hrt
  subst hln
  have hG := hC.1
  show GF X (tM Z X 2 (fun x : Int32 => some (Value.int x))) _ t 0 [(0, .ref (Z.2.2.2 18)), (1, .int v1)] []
  unfold fX4_log
  refine gf_iload_n hG dX4_log_0 rfl rfl ?_
  refine gf_if_ge hG (tgt := 6) dX4_log_1 (by decide) ?_ ?_
  · refine gf_iconst hG (-1 : Int32) dX4_log_4 (by decide) ?_
    exact tf_ret hC hrt rfl rfl dX4_log_5
  · refine gf_iload_n hG dX4_log_6 rfl rfl ?_
    refine gf_aload_n hG dX4_log_7 rfl rfl ?_
    refine tf_get hC 0 dX4_log_8 (by decide) q1287 rfl ?_
    refine gf_sipush hG (nI 962) dX4_log_11 (by decide) ?_
    refine tf_iald hC dX4_log_14 (by decide) (fun x1 => ?_)
    refine gf_icmp_ge hG (tgt := 31) dX4_log_15 (by decide) ?_ ?_
    · refine gf_aload_n hG dX4_log_18 rfl rfl ?_
      refine tf_get hC 0 dX4_log_19 (by decide) q1287 rfl ?_
      refine gf_sipush hG (nI 963) dX4_log_22 (by decide) ?_
      refine gf_iload_n hG dX4_log_25 rfl rfl ?_
      refine gf_iadd hG dX4_log_26 ?_
      refine tf_iald hC dX4_log_27 (by decide) (fun x2 => ?_)
      refine gf_goto hG (tgt := 33) dX4_log_28 (by decide) ?_
      exact tf_ret hC hrt rfl rfl dX4_log_33
    · refine gf_bipush hG (-2 : Int32) dX4_log_31 (by decide) ?_
      exact tf_ret hC hrt rfl rfl dX4_log_33
def fX4_cause (v1 : Int32) (v2 : Int32) (t : tSt) : Option (Int32 × tSt) :=
  if v1 < 0 then
    some ((-1 : Int32), t)
  else
    ob (fX4_in v2 (nI 0) (nI 1) t) (fun r1 t2 =>
    if r1 = 0 then
      some ((-1 : Int32), t2)
    else
      rv (trd t2 0 (nI 993)) (fun x3 =>
      if v1 < x3 then
        rv (trd t2 0 (((nI 994) + ((nI 2) * v1)) + v2)) (fun x4 =>
        some (x4, t2)
        )
      else
        some ((-2 : Int32), t2)
      )
    )
set_option maxHeartbeats 4000000 in
theorem wX4_cause (l : Launch) (Z : tZ) (hj : tInj Z) (v1 : Int32) (v2 : Int32) (t : tSt)  : ∀ (r : Int32) (t' : tSt), fX4_cause v1 v2 t = some (r, t') → tCt l Z yX4_cause cX4_cause 3 (some .int) 2 [.ref (Z.2.2.2 18), .int v1, .int v2] t (some (.int r)) t' := by
  refine tmet (ρ := (fun x : Int32 => some (Value.int x))) (av := [.ref (Z.2.2.2 18), .int v1, .int v2]) hj (by decide +kernel) (Nat.le_of_ble_eq_true rfl) (lv_args_cat (List.forall_mem_cons.mpr ⟨rfl, List.forall_mem_cons.mpr ⟨rfl, List.forall_mem_cons.mpr ⟨rfl, fun _ h => absurd h List.not_mem_nil⟩⟩⟩)) ?_
  intro X hln hC hnL hrt
  subst hln
  have hG := hC.1
  show GF X (tM Z X 3 (fun x : Int32 => some (Value.int x))) _ t 0 [(0, .ref (Z.2.2.2 18)), (1, .int v1), (2, .int v2)] []
  unfold fX4_cause
  refine gf_iload_n hG dX4_cause_0 rfl rfl ?_
  refine gf_if_lt hG (tgt := 13) dX4_cause_1 (by decide) ?_ ?_
  · refine gf_iconst hG (-1 : Int32) dX4_cause_13 (by decide) ?_
    exact tf_ret hC hrt rfl rfl dX4_cause_14
  · refine gf_iload_n hG dX4_cause_4 rfl rfl ?_
    refine gf_iconst hG (nI 0) dX4_cause_5 (by decide) ?_
    refine gf_iconst hG (nI 1) dX4_cause_6 (by decide) ?_
    refine tf_callS (f := fX4_in v2 (nI 0) (nI 1) t) (As := [.int v2, .int (nI 0), .int (nI 1)]) (rest := []) (n := 3) (d' := 1) (st1 := fun r1 => [.int r1]) hC hnL (wX4_in (gLn X) Z hC.2.2.1 v2 (nI 0) (nI 1) t) dX4_cause_7 (lw_S q1366 q1367 q78 q1368) (by decide +kernel) rfl (by decide) (by decide) (Nat.le_of_ble_eq_true rfl) (fun _ => rfl) (fun r1 t2 => ?_)
    refine gf_if_ne hG (tgt := 15) dX4_cause_10 (by decide) ?_ ?_
    · refine gf_iconst hG (-1 : Int32) dX4_cause_13 (by decide) ?_
      exact tf_ret hC hrt rfl rfl dX4_cause_14
    · refine gf_iload_n hG dX4_cause_15 rfl rfl ?_
      refine gf_aload_n hG dX4_cause_16 rfl rfl ?_
      refine tf_get hC 0 dX4_cause_17 (by decide) q1287 rfl ?_
      refine gf_sipush hG (nI 993) dX4_cause_20 (by decide) ?_
      refine tf_iald hC dX4_cause_23 (by decide) (fun x3 => ?_)
      refine gf_icmp_ge hG (tgt := 44) dX4_cause_24 (by decide) ?_ ?_
      · refine gf_aload_n hG dX4_cause_27 rfl rfl ?_
        refine tf_get hC 0 dX4_cause_28 (by decide) q1287 rfl ?_
        refine gf_sipush hG (nI 994) dX4_cause_31 (by decide) ?_
        refine gf_iconst hG (nI 2) dX4_cause_34 (by decide) ?_
        refine gf_iload_n hG dX4_cause_35 rfl rfl ?_
        refine gf_imul hG dX4_cause_36 ?_
        refine gf_iadd hG dX4_cause_37 ?_
        refine gf_iload_n hG dX4_cause_38 rfl rfl ?_
        refine gf_iadd hG dX4_cause_39 ?_
        refine tf_iald hC dX4_cause_40 (by decide) (fun x4 => ?_)
        refine gf_goto hG (tgt := 46) dX4_cause_41 (by decide) ?_
        exact tf_ret hC hrt rfl rfl dX4_cause_46
      · refine gf_bipush hG (-2 : Int32) dX4_cause_44 (by decide) ?_
        exact tf_ret hC hrt rfl rfl dX4_cause_46
def fX4_take_L2 (v0 : Nat) (v1 : Nat) (kx : tSt → Option (Unit × tSt)) : Nat → Int32 → tSt → Option (Unit × tSt)
  | 0, _, _ => none
  | k + 1, v2, t =>
    if v2 < (nI 1018) then
      rv (trd t v0 v2) (fun x1 =>
      rv (twr t v1 v2 x1) (fun t2 =>
      letv (v2 + (nI 1)) (fun y3 =>
      fX4_take_L2 v0 v1 kx k y3 t2
      )
      )
      )
    else
      kx t
set_option maxHeartbeats 4000000 in
theorem gfX4_take_L2 {X : gCx} {Z : tZ} (hC : tOk X Z RX4 cX4_take 1) (hnL : gLoc X = 3) (hrt : gRet X = none) (v0 : Nat) (v1 : Nat) (hv0 : v0 < 18) (hv1 : v1 < 18) (kx : tSt → Option (Unit × tSt)) (hkx : ∀  (t : tSt), GF X (tM Z X 3 (fun _ : Unit => (none : Option Value))) (kx t) t 21 [] []) : ∀ (k : Nat) (v2 : Int32) (t : tSt), GF X (tM Z X 3 (fun _ : Unit => (none : Option Value))) (fX4_take_L2 v0 v1 kx k v2 t) t 2 [(0, .ref (Z.2.2.2 v0)), (1, .ref (Z.2.2.2 v1)), (2, .int v2)] [] := by
  have hG := hC.1
  intro k
  induction k with
  | zero => intro v2 t; exact gf_none
  | succ k ih =>
    intro v2 t
    rw [fX4_take_L2]
    refine gf_iload_n hG dX4_take_2 rfl rfl ?_
    refine gf_sipush hG (nI 1018) dX4_take_3 (by decide) ?_
    refine gf_icmp_ge hG (tgt := 21) dX4_take_6 (by decide) ?_ ?_
    · refine gf_aload_n hG dX4_take_9 rfl rfl ?_
      refine gf_iload_n hG dX4_take_10 rfl rfl ?_
      refine gf_aload_n hG dX4_take_11 rfl rfl ?_
      refine gf_iload_n hG dX4_take_12 rfl rfl ?_
      refine tf_iald hC dX4_take_13 hv0 (fun x1 => ?_)
      refine tf_iast hC dX4_take_14 hv1 (fun t2 => ?_)
      refine gf_letiinc hG (c := (nI 1)) (lv' := fun y3 => [(0, .ref (Z.2.2.2 v0)), (1, .ref (Z.2.2.2 v1)), (2, .int y3)]) dX4_take_15 rfl (by decide) (Nat.le_of_ble_eq_true rfl) (fun _ => rfl) (fun y3 => ?_)
      refine gf_goto hG (tgt := 2) dX4_take_18 (by decide) ?_
      exact ih y3 t2
    · refine gf_sub [] rfl ?_
      exact hkx t
def fX4_take (v0 : Nat) (v1 : Nat) (t : tSt) : Option (Unit × tSt) :=
  fX4_take_L2 v0 v1 (fun  (t4 : tSt) =>
    some ((), t4)
    ) FU (nI 0) t
set_option maxHeartbeats 4000000 in
theorem wX4_take (l : Launch) (Z : tZ) (hj : tInj Z) (v0 : Nat) (v1 : Nat) (t : tSt) (hv0 : v0 < 18) (hv1 : v1 < 18) : ∀ (r : Unit) (t' : tSt), fX4_take v0 v1 t = some (r, t') → tCt l Z yX4_take cX4_take 3 none 1 [.ref (Z.2.2.2 v0), .ref (Z.2.2.2 v1)] t none t' := by
  refine tmet (ρ := (fun _ : Unit => (none : Option Value))) (av := [.ref (Z.2.2.2 v0), .ref (Z.2.2.2 v1)]) hj (by decide +kernel) (Nat.le_of_ble_eq_true rfl) (lv_args_cat (List.forall_mem_cons.mpr ⟨rfl, List.forall_mem_cons.mpr ⟨rfl, fun _ h => absurd h List.not_mem_nil⟩⟩)) ?_
  intro X hln hC hnL hrt
  subst hln
  have hG := hC.1
  show GF X (tM Z X 3 (fun _ : Unit => (none : Option Value))) _ t 0 [(0, .ref (Z.2.2.2 v0)), (1, .ref (Z.2.2.2 v1))] []
  unfold fX4_take
  refine gf_iconst hG (nI 0) dX4_take_0 (by decide) ?_
  refine gf_istore_n hG dX4_take_1 rfl (Nat.le_of_ble_eq_true rfl) (lv' := [(0, _), (1, _), (2, _)]) rfl ?_
  refine gfX4_take_L2 hC hnL hrt v0 v1 hv0 hv1 _ (fun t4 => ?_) FU (nI 0) t
  exact tf_vret hC hrt rfl dX4_take_21
def fX4_dry (v1 : Int32) (v2 : Int32) (t : tSt) : Option (Int32 × tSt) :=
  ob (fX4_in v1 (nI 1) (nI 200) t) (fun r1 t2 =>
  if r1 = 0 then
    some ((-2000000000 : Int32), t2)
  else
    ob (fX4_in v2 (nI 0) (nI 5) t2) (fun r3 t4 =>
    jn (fun  (t5 : tSt) =>
      ob (fX4_take (0) (1) t5) (fun r7 t8 =>
      ob (fX4_runs v1 t8) (fun r9 t10 =>
      jn (fun (x11 : Int32) (t12 : tSt) =>
        ob (fX4_take (1) (0) t12) (fun r14 t15 =>
        some (x11, t15)
        )
        ) (fun (j13 : Int32 → tSt → Option (Int32 × tSt)) =>
        gsw v2 [
          ((nI 0), 
            j13 r9 t10
          ),
          ((nI 1), 
            letv ((t10 18 18)) (fun y16 =>
            j13 y16 t10
            )
          ),
          ((nI 2), 
            ob (fX4_liveOnes t10) (fun r17 t18 =>
            j13 r17 t18
            )
          ),
          ((nI 3), 
            rv (trd t10 0 (nI 927)) (fun x19 =>
            j13 x19 t10
            )
          ),
          ((nI 4), 
            rv (trd t10 0 (nI 926)) (fun x20 =>
            j13 x20 t10
            )
          ),
          ((nI 5), 
            rv (trd t10 0 (nI 925)) (fun x21 =>
            j13 x21 t10
            )
          )
        ] (
          ob (fX4_at (v2 - (nI 10)) (nI 6) t10) (fun r22 t23 =>
          j13 r22 t23
          )
        )
        )
      )
      )
      ) (fun (j6 : tSt → Option (Int32 × tSt)) =>
      if r3 = 0 then
        if v2 < (nI 10) then
          some ((-2000000000 : Int32), t4)
        else
          ob (fX4_isActor (v2 - (nI 10)) t4) (fun r24 t25 =>
          if r24 = 0 then
            some ((-2000000000 : Int32), t25)
          else
            j6 t25
          )
      else
        j6 t4
      )
    )
  )
set_option maxHeartbeats 4000000 in
theorem wX4_dry (l : Launch) (Z : tZ) (hj : tInj Z) (v1 : Int32) (v2 : Int32) (t : tSt)  : ∀ (r : Int32) (t' : tSt), fX4_dry v1 v2 t = some (r, t') → tCt l Z yX4_dry cX4_dry 5 (some .int) 46 [.ref (Z.2.2.2 18), .int v1, .int v2] t (some (.int r)) t' := by
  refine tmet (ρ := (fun x : Int32 => some (Value.int x))) (av := [.ref (Z.2.2.2 18), .int v1, .int v2]) hj (by decide +kernel) (Nat.le_of_ble_eq_true rfl) (lv_args_cat (List.forall_mem_cons.mpr ⟨rfl, List.forall_mem_cons.mpr ⟨rfl, List.forall_mem_cons.mpr ⟨rfl, fun _ h => absurd h List.not_mem_nil⟩⟩⟩)) ?_
  intro X hln hC hnL hrt
  subst hln
  have hG := hC.1
  show GF X (tM Z X 5 (fun x : Int32 => some (Value.int x))) _ t 0 [(0, .ref (Z.2.2.2 18)), (1, .int v1), (2, .int v2)] []
  unfold fX4_dry
  refine gf_iload_n hG dX4_dry_0 rfl rfl ?_
  refine gf_iconst hG (nI 1) dX4_dry_1 (by decide) ?_
  refine gf_sipush hG (nI 200) dX4_dry_2 (by decide) ?_
  refine tf_callS (f := fX4_in v1 (nI 1) (nI 200) t) (As := [.int v1, .int (nI 1), .int (nI 200)]) (rest := []) (n := 3) (d' := 1) (st1 := fun r1 => [.int r1]) hC hnL (wX4_in (gLn X) Z hC.2.2.1 v1 (nI 1) (nI 200) t) dX4_dry_5 (lw_S q1366 q1367 q78 q1368) (by decide +kernel) rfl (by decide) (by decide) (Nat.le_of_ble_eq_true rfl) (fun _ => rfl) (fun r1 t2 => ?_)
  refine gf_if_eq hG (tgt := 37) dX4_dry_8 (by decide) ?_ ?_
  · refine gf_ldc hG (-2000000000 : Int32) dX4_dry_37 q1419 ?_
    exact tf_ret hC hrt rfl rfl dX4_dry_39
  · refine gf_iload_n hG dX4_dry_11 rfl rfl ?_
    refine gf_iconst hG (nI 0) dX4_dry_12 (by decide) ?_
    refine gf_iconst hG (nI 5) dX4_dry_13 (by decide) ?_
    refine tf_callS (f := fX4_in v2 (nI 0) (nI 5) t2) (As := [.int v2, .int (nI 0), .int (nI 5)]) (rest := []) (n := 3) (d' := 1) (st1 := fun r3 => [.int r3]) hC hnL (wX4_in (gLn X) Z hC.2.2.1 v2 (nI 0) (nI 5) t2) dX4_dry_14 (lw_S q1366 q1367 q78 q1368) (by decide +kernel) rfl (by decide) (by decide) (Nat.le_of_ble_eq_true rfl) (fun _ => rfl) (fun r3 t4 => ?_)
    refine gf_jn (fun j_ => ∀  (t5 : tSt), GF X (tM Z X 5 (fun x : Int32 => some (Value.int x))) (j_ t5) t5 40 [(0, .ref (Z.2.2.2 18)), (1, .int v1), (2, .int v2)] []) (fun t5 => ?_) (fun j6 hj6 => ?_)
    · refine gf_aload_n hG dX4_dry_40 rfl rfl ?_
      refine tf_get hC 0 dX4_dry_41 (by decide) q1287 rfl ?_
      refine gf_aload_n hG dX4_dry_44 rfl rfl ?_
      refine tf_get hC 1 dX4_dry_45 (by decide) q1288 rfl ?_
      refine tf_callS (f := fX4_take (0) (1) t5) (As := [.ref (Z.2.2.2 0), .ref (Z.2.2.2 1)]) (rest := []) (n := 2) (d' := 1) (st1 := fun _ => []) hC hnL (wX4_take (gLn X) Z hC.2.2.1 (0) (1) t5 (by decide) (by decide)) dX4_dry_48 (lw_S q1566 q1567 q78 q1568) (by decide +kernel) rfl (by decide) (by decide) (Nat.le_of_ble_eq_true rfl) (fun _ => rfl) (fun r7 t8 => ?_)
      refine gf_aload_n hG dX4_dry_51 rfl rfl ?_
      refine gf_iload_n hG dX4_dry_52 rfl rfl ?_
      refine tf_callV (f := fX4_runs v1 t8) (As := [.int v1]) (rest := []) (n := 1) (d' := 45) (st1 := fun r9 => [.int r9]) hC hnL (wX4_runs (gLn X) Z hC.2.2.1 v1 t8) dX4_dry_53 (lw_V q1479 q1481 qs47 q78 q1482) (by decide +kernel) rfl (by decide) (by decide) (Nat.le_of_ble_eq_true rfl) (fun _ => rfl) (fun r9 t10 => ?_)
      refine gf_istore_n hG dX4_dry_56 rfl (Nat.le_of_ble_eq_true rfl) (lv' := [(0, _), (1, _), (2, _), (3, _)]) rfl ?_
      refine gf_iload_n hG dX4_dry_57 rfl rfl ?_
      refine gf_jn (fun j_ => ∀ (x11 : Int32) (t12 : tSt), GF X (tM Z X 5 (fun x : Int32 => some (Value.int x))) (j_ x11 t12) t12 171 [(0, .ref (Z.2.2.2 18)), (4, .int x11)] []) (fun x11 t12 => ?_) (fun j13 hj13 => ?_)
      · refine gf_aload_n hG dX4_dry_171 rfl rfl ?_
        refine tf_get hC 1 dX4_dry_172 (by decide) q1288 rfl ?_
        refine gf_aload_n hG dX4_dry_175 rfl rfl ?_
        refine tf_get hC 0 dX4_dry_176 (by decide) q1287 rfl ?_
        refine tf_callS (f := fX4_take (1) (0) t12) (As := [.ref (Z.2.2.2 1), .ref (Z.2.2.2 0)]) (rest := []) (n := 2) (d' := 1) (st1 := fun _ => []) hC hnL (wX4_take (gLn X) Z hC.2.2.1 (1) (0) t12 (by decide) (by decide)) dX4_dry_179 (lw_S q1566 q1567 q78 q1568) (by decide +kernel) rfl (by decide) (by decide) (Nat.le_of_ble_eq_true rfl) (fun _ => rfl) (fun r14 t15 => ?_)
        refine gf_iload hG dX4_dry_182 rfl ?_
        exact tf_ret hC hrt rfl rfl dX4_dry_184
      · refine gf_tsw hG (dt := 159) dX4_dry_58 (by decide) (by decide) ⟨⟨by decide, 96, by decide, ?_⟩, ⟨by decide, 102, by decide, ?_⟩, ⟨by decide, 111, by decide, ?_⟩, ⟨by decide, 120, by decide, ?_⟩, ⟨by decide, 133, by decide, ?_⟩, ⟨by decide, 146, by decide, ?_⟩, trivial⟩ ?_
        · refine gf_iload_n hG dX4_dry_96 rfl rfl ?_
          refine gf_istore hG dX4_dry_97 (Nat.le_of_ble_eq_true rfl) (lv' := [(0, _), (1, _), (2, _), (3, _), (4, _)]) rfl ?_
          refine gf_goto hG (tgt := 171) dX4_dry_99 (by decide) ?_
          refine gf_sub [0, 4] rfl ?_
          exact hj13 r9 t10
        · refine gf_aload_n hG dX4_dry_102 rfl rfl ?_
          refine tf_get hC 18 dX4_dry_103 (by decide) q1305 rfl ?_
          refine gf_letv (fun y16 hy16 => ?_)
          refine gf_istore hG dX4_dry_106 (Nat.le_of_ble_eq_true rfl) (lv' := [(0, _), (1, _), (2, _), (3, _), (4, _)]) rfl ?_
          refine gf_goto hG (tgt := 171) dX4_dry_108 (by decide) ?_
          refine gf_sub [0, 4] rfl ?_
          exact hj13 y16 t10
        · refine gf_aload_n hG dX4_dry_111 rfl rfl ?_
          refine tf_callV (f := fX4_liveOnes t10) (As := []) (rest := []) (n := 0) (d' := 3) (st1 := fun r17 => [.int r17]) hC hnL (wX4_liveOnes (gLn X) Z hC.2.2.1 t10) dX4_dry_112 (lw_V q1448 q1450 qs41 q78 q1451) (by decide +kernel) rfl (by decide) (by decide) (Nat.le_of_ble_eq_true rfl) (fun _ => rfl) (fun r17 t18 => ?_)
          refine gf_istore hG dX4_dry_115 (Nat.le_of_ble_eq_true rfl) (lv' := [(0, _), (1, _), (2, _), (3, _), (4, _)]) rfl ?_
          refine gf_goto hG (tgt := 171) dX4_dry_117 (by decide) ?_
          refine gf_sub [0, 4] rfl ?_
          exact hj13 r17 t18
        · refine gf_aload_n hG dX4_dry_120 rfl rfl ?_
          refine tf_get hC 0 dX4_dry_121 (by decide) q1287 rfl ?_
          refine gf_sipush hG (nI 927) dX4_dry_124 (by decide) ?_
          refine tf_iald hC dX4_dry_127 (by decide) (fun x19 => ?_)
          refine gf_istore hG dX4_dry_128 (Nat.le_of_ble_eq_true rfl) (lv' := [(0, _), (1, _), (2, _), (3, _), (4, _)]) rfl ?_
          refine gf_goto hG (tgt := 171) dX4_dry_130 (by decide) ?_
          refine gf_sub [0, 4] rfl ?_
          exact hj13 x19 t10
        · refine gf_aload_n hG dX4_dry_133 rfl rfl ?_
          refine tf_get hC 0 dX4_dry_134 (by decide) q1287 rfl ?_
          refine gf_sipush hG (nI 926) dX4_dry_137 (by decide) ?_
          refine tf_iald hC dX4_dry_140 (by decide) (fun x20 => ?_)
          refine gf_istore hG dX4_dry_141 (Nat.le_of_ble_eq_true rfl) (lv' := [(0, _), (1, _), (2, _), (3, _), (4, _)]) rfl ?_
          refine gf_goto hG (tgt := 171) dX4_dry_143 (by decide) ?_
          refine gf_sub [0, 4] rfl ?_
          exact hj13 x20 t10
        · refine gf_aload_n hG dX4_dry_146 rfl rfl ?_
          refine tf_get hC 0 dX4_dry_147 (by decide) q1287 rfl ?_
          refine gf_sipush hG (nI 925) dX4_dry_150 (by decide) ?_
          refine tf_iald hC dX4_dry_153 (by decide) (fun x21 => ?_)
          refine gf_istore hG dX4_dry_154 (Nat.le_of_ble_eq_true rfl) (lv' := [(0, _), (1, _), (2, _), (3, _), (4, _)]) rfl ?_
          refine gf_goto hG (tgt := 171) dX4_dry_156 (by decide) ?_
          refine gf_sub [0, 4] rfl ?_
          exact hj13 x21 t10
        · refine gf_aload_n hG dX4_dry_159 rfl rfl ?_
          refine gf_iload_n hG dX4_dry_160 rfl rfl ?_
          refine gf_bipush hG (nI 10) dX4_dry_161 (by decide) ?_
          refine gf_isub hG dX4_dry_163 ?_
          refine gf_bipush hG (nI 6) dX4_dry_164 (by decide) ?_
          refine tf_callV (f := fX4_at (v2 - (nI 10)) (nI 6) t10) (As := [.int (v2 - (nI 10)), .int (nI 6)]) (rest := []) (n := 2) (d' := 1) (st1 := fun r22 => [.int r22]) hC hnL (wX4_at (gLn X) Z hC.2.2.1 (v2 - (nI 10)) (nI 6) t10) dX4_dry_166 (lw_V q1376 q1378 qs33 q78 q1379) (by decide +kernel) rfl (by decide) (by decide) (Nat.le_of_ble_eq_true rfl) (fun _ => rfl) (fun r22 t23 => ?_)
          refine gf_istore hG dX4_dry_169 (Nat.le_of_ble_eq_true rfl) (lv' := [(0, _), (1, _), (2, _), (3, _), (4, _)]) rfl ?_
          refine gf_sub [0, 4] rfl ?_
          exact hj13 r22 t23
    · refine gf_if_ne hG (tgt := 40) dX4_dry_17 (by decide) ?_ ?_
      · refine gf_iload_n hG dX4_dry_20 rfl rfl ?_
        refine gf_bipush hG (nI 10) dX4_dry_21 (by decide) ?_
        refine gf_icmp_lt hG (tgt := 37) dX4_dry_23 (by decide) ?_ ?_
        · refine gf_ldc hG (-2000000000 : Int32) dX4_dry_37 q1419 ?_
          exact tf_ret hC hrt rfl rfl dX4_dry_39
        · refine gf_aload_n hG dX4_dry_26 rfl rfl ?_
          refine gf_iload_n hG dX4_dry_27 rfl rfl ?_
          refine gf_bipush hG (nI 10) dX4_dry_28 (by decide) ?_
          refine gf_isub hG dX4_dry_30 ?_
          refine tf_callV (f := fX4_isActor (v2 - (nI 10)) t4) (As := [.int (v2 - (nI 10))]) (rest := []) (n := 1) (d' := 2) (st1 := fun r24 => [.int r24]) hC hnL (wX4_isActor (gLn X) Z hC.2.2.1 (v2 - (nI 10)) t4) dX4_dry_31 (lw_V q1362 q1364 qs31 q78 q1365) (by decide +kernel) rfl (by decide) (by decide) (Nat.le_of_ble_eq_true rfl) (fun _ => rfl) (fun r24 t25 => ?_)
          refine gf_if_ne hG (tgt := 40) dX4_dry_34 (by decide) ?_ ?_
          · refine gf_ldc hG (-2000000000 : Int32) dX4_dry_37 q1419 ?_
            exact tf_ret hC hrt rfl rfl dX4_dry_39
          · exact hj6 t25
      · exact hj6 t4
def fX4_first_L18  (kx : Int32 → tSt → Option (Int32 × tSt)) : Nat → Int32 → tSt → Option (Int32 × tSt)
  | 0, _, _ => none
  | k + 1, v1, t =>
    if (t 18 5) = 0 then
      ob (fX4_isEnd v1 (nI 200) t) (fun r4 t5 =>
      if r4 = 0 then
        ob (fX4_step t5) (fun r6 t7 =>
        letv (v1 + (nI 1)) (fun y8 =>
        fX4_first_L18 kx k y8 t7
        )
        )
      else
        kx v1 t5
      )
    else
      kx v1 t
set_option maxHeartbeats 4000000 in
theorem gfX4_first_L18 {X : gCx} {Z : tZ} (hC : tOk X Z RX4 cX4_first 45) (hnL : gLoc X = 2) (hrt : gRet X = (some .int))   (kx : Int32 → tSt → Option (Int32 × tSt)) (hkx : ∀ (v1 : Int32) (t : tSt), GF X (tM Z X 2 (fun x : Int32 => some (Value.int x))) (kx v1 t) t 46 [(0, .ref (Z.2.2.2 18)), (1, .int v1)] []) : ∀ (k : Nat) (v1 : Int32) (t : tSt), GF X (tM Z X 2 (fun x : Int32 => some (Value.int x))) (fX4_first_L18 kx k v1 t) t 18 [(0, .ref (Z.2.2.2 18)), (1, .int v1)] [] := by
  have hG := hC.1
  intro k
  induction k with
  | zero => intro v1 t; exact gf_none
  | succ k ih =>
    intro v1 t
    rw [fX4_first_L18]
    refine gf_aload_n hG dX4_first_18 rfl rfl ?_
    refine tf_get hC 5 dX4_first_19 (by decide) q1292 rfl ?_
    refine gf_if_ne hG (tgt := 46) dX4_first_22 (by decide) ?_ ?_
    · refine gf_aload_n hG dX4_first_25 rfl rfl ?_
      refine gf_iload_n hG dX4_first_26 rfl rfl ?_
      refine gf_sipush hG (nI 200) dX4_first_27 (by decide) ?_
      refine tf_callV (f := fX4_isEnd v1 (nI 200) t) (As := [.int v1, .int (nI 200)]) (rest := []) (n := 2) (d' := 5) (st1 := fun r4 => [.int r4]) hC hnL (wX4_isEnd (gLn X) Z hC.2.2.1 v1 (nI 200) t) dX4_first_30 (lw_V q1483 q1485 qs48 q78 q1486) (by decide +kernel) rfl (by decide) (by decide) (Nat.le_of_ble_eq_true rfl) (fun _ => rfl) (fun r4 t5 => ?_)
      refine gf_if_ne hG (tgt := 46) dX4_first_33 (by decide) ?_ ?_
      · refine gf_aload_n hG dX4_first_36 rfl rfl ?_
        refine tf_callV (f := fX4_step t5) (As := []) (rest := []) (n := 0) (d' := 44) (st1 := fun _ => []) hC hnL (wX4_step (gLn X) Z hC.2.2.1 t5) dX4_first_37 (lw_V q1495 q1497 qs51 q78 q1498) (by decide +kernel) rfl (by decide) (by decide) (Nat.le_of_ble_eq_true rfl) (fun _ => rfl) (fun r6 t7 => ?_)
        refine gf_letiinc hG (c := (nI 1)) (lv' := fun y8 => [(0, .ref (Z.2.2.2 18)), (1, .int y8)]) dX4_first_40 rfl (by decide) (Nat.le_of_ble_eq_true rfl) (fun _ => rfl) (fun y8 => ?_)
        refine gf_goto hG (tgt := 18) dX4_first_43 (by decide) ?_
        exact ih y8 t7
      · exact hkx v1 t5
    · exact hkx v1 t
def fX4_first  (t : tSt) : Option (Int32 × tSt) :=
  ob (fX4_take (0) (1) t) (fun r1 t2 =>
  letv (tup t2 18 5 (nI 0)) (fun t3 =>
  fX4_first_L18 (fun (v1_9 : Int32) (t10 : tSt) =>
    ob (fX4_take (1) (0) t10) (fun r11 t12 =>
    if (t12 18 5) = 0 then
      some ((-2 : Int32), t12)
    else
      some (v1_9, t12)
    )
    ) FU (nI 0) t3
  )
  )
set_option maxHeartbeats 4000000 in
theorem wX4_first (l : Launch) (Z : tZ) (hj : tInj Z)  (t : tSt)  : ∀ (r : Int32) (t' : tSt), fX4_first t = some (r, t') → tCt l Z yX4_first cX4_first 2 (some .int) 45 [.ref (Z.2.2.2 18)] t (some (.int r)) t' := by
  refine tmet (ρ := (fun x : Int32 => some (Value.int x))) (av := [.ref (Z.2.2.2 18)]) hj (by decide +kernel) (Nat.le_of_ble_eq_true rfl) (lv_args_cat (List.forall_mem_cons.mpr ⟨rfl, fun _ h => absurd h List.not_mem_nil⟩)) ?_
  intro X hln hC hnL hrt
  subst hln
  have hG := hC.1
  show GF X (tM Z X 2 (fun x : Int32 => some (Value.int x))) _ t 0 [(0, .ref (Z.2.2.2 18))] []
  unfold fX4_first
  refine gf_aload_n hG dX4_first_0 rfl rfl ?_
  refine tf_get hC 0 dX4_first_1 (by decide) q1287 rfl ?_
  refine gf_aload_n hG dX4_first_4 rfl rfl ?_
  refine tf_get hC 1 dX4_first_5 (by decide) q1288 rfl ?_
  refine tf_callS (f := fX4_take (0) (1) t) (As := [.ref (Z.2.2.2 0), .ref (Z.2.2.2 1)]) (rest := []) (n := 2) (d' := 1) (st1 := fun _ => []) hC hnL (wX4_take (gLn X) Z hC.2.2.1 (0) (1) t (by decide) (by decide)) dX4_first_8 (lw_S q1566 q1567 q78 q1568) (by decide +kernel) rfl (by decide) (by decide) (Nat.le_of_ble_eq_true rfl) (fun _ => rfl) (fun r1 t2 => ?_)
  refine gf_aload_n hG dX4_first_11 rfl rfl ?_
  refine gf_iconst hG (nI 0) dX4_first_12 (by decide) ?_
  refine tf_put hC 5 dX4_first_13 (by decide) q1292 rfl (by first | rfl | decide) (by first | rfl | decide) (fun _ => rfl) ?_
  refine gf_letS (fun t3 => ?_)
  refine gf_iconst hG (nI 0) dX4_first_16 (by decide) ?_
  refine gf_istore_n hG dX4_first_17 rfl (Nat.le_of_ble_eq_true rfl) (lv' := [(0, _), (1, _)]) rfl ?_
  refine gfX4_first_L18 hC hnL hrt  _ (fun v1_9 t10 => ?_) FU (nI 0) t3
  refine gf_aload_n hG dX4_first_46 rfl rfl ?_
  refine tf_get hC 1 dX4_first_47 (by decide) q1288 rfl ?_
  refine gf_aload_n hG dX4_first_50 rfl rfl ?_
  refine tf_get hC 0 dX4_first_51 (by decide) q1287 rfl ?_
  refine tf_callS (f := fX4_take (1) (0) t10) (As := [.ref (Z.2.2.2 1), .ref (Z.2.2.2 0)]) (rest := []) (n := 2) (d' := 1) (st1 := fun _ => []) hC hnL (wX4_take (gLn X) Z hC.2.2.1 (1) (0) t10 (by decide) (by decide)) dX4_first_54 (lw_S q1566 q1567 q78 q1568) (by decide +kernel) rfl (by decide) (by decide) (Nat.le_of_ble_eq_true rfl) (fun _ => rfl) (fun r11 t12 => ?_)
  refine gf_aload_n hG dX4_first_57 rfl rfl ?_
  refine tf_get hC 5 dX4_first_58 (by decide) q1292 rfl ?_
  refine gf_if_eq hG (tgt := 68) dX4_first_61 (by decide) ?_ ?_
  · refine gf_bipush hG (-2 : Int32) dX4_first_68 (by decide) ?_
    exact tf_ret hC hrt rfl rfl dX4_first_70
  · refine gf_iload_n hG dX4_first_64 rfl rfl ?_
    refine gf_goto hG (tgt := 70) dX4_first_65 (by decide) ?_
    exact tf_ret hC hrt rfl rfl dX4_first_70
def fX4_quiet_L13  (kx : Int32 → tSt → Option (Int32 × tSt)) : Nat → Int32 → tSt → Option (Int32 × tSt)
  | 0, _, _ => none
  | k + 1, v1, t =>
    ob (fX4_hasStep t) (fun r3 t4 =>
    if r3 = 0 then
      kx v1 t4
    else
      if v1 < (nI 200) then
        ob (fX4_step t4) (fun r5 t6 =>
        letv (v1 + (nI 1)) (fun y7 =>
        fX4_quiet_L13 kx k y7 t6
        )
        )
      else
        kx v1 t4
    )
set_option maxHeartbeats 4000000 in
theorem gfX4_quiet_L13 {X : gCx} {Z : tZ} (hC : tOk X Z RX4 cX4_quiet 45) (hnL : gLoc X = 3) (hrt : gRet X = (some .int))   (kx : Int32 → tSt → Option (Int32 × tSt)) (hkx : ∀ (v1 : Int32) (t : tSt), GF X (tM Z X 3 (fun x : Int32 => some (Value.int x))) (kx v1 t) t 37 [(0, .ref (Z.2.2.2 18)), (1, .int v1)] []) : ∀ (k : Nat) (v1 : Int32) (t : tSt), GF X (tM Z X 3 (fun x : Int32 => some (Value.int x))) (fX4_quiet_L13 kx k v1 t) t 13 [(0, .ref (Z.2.2.2 18)), (1, .int v1)] [] := by
  have hG := hC.1
  intro k
  induction k with
  | zero => intro v1 t; exact gf_none
  | succ k ih =>
    intro v1 t
    rw [fX4_quiet_L13]
    refine gf_aload_n hG dX4_quiet_13 rfl rfl ?_
    refine tf_callV (f := fX4_hasStep t) (As := []) (rest := []) (n := 0) (d' := 4) (st1 := fun r3 => [.int r3]) hC hnL (wX4_hasStep (gLn X) Z hC.2.2.1 t) dX4_quiet_14 (lw_V q1487 q1489 qs49 q78 q1490) (by decide +kernel) rfl (by decide) (by decide) (Nat.le_of_ble_eq_true rfl) (fun _ => rfl) (fun r3 t4 => ?_)
    refine gf_if_eq hG (tgt := 37) dX4_quiet_17 (by decide) ?_ ?_
    · exact hkx v1 t4
    · refine gf_iload_n hG dX4_quiet_20 rfl rfl ?_
      refine gf_sipush hG (nI 200) dX4_quiet_21 (by decide) ?_
      refine gf_icmp_ge hG (tgt := 37) dX4_quiet_24 (by decide) ?_ ?_
      · refine gf_aload_n hG dX4_quiet_27 rfl rfl ?_
        refine tf_callV (f := fX4_step t4) (As := []) (rest := []) (n := 0) (d' := 44) (st1 := fun _ => []) hC hnL (wX4_step (gLn X) Z hC.2.2.1 t4) dX4_quiet_28 (lw_V q1495 q1497 qs51 q78 q1498) (by decide +kernel) rfl (by decide) (by decide) (Nat.le_of_ble_eq_true rfl) (fun _ => rfl) (fun r5 t6 => ?_)
        refine gf_letiinc hG (c := (nI 1)) (lv' := fun y7 => [(0, .ref (Z.2.2.2 18)), (1, .int y7)]) dX4_quiet_31 rfl (by decide) (Nat.le_of_ble_eq_true rfl) (fun _ => rfl) (fun y7 => ?_)
        refine gf_goto hG (tgt := 13) dX4_quiet_34 (by decide) ?_
        exact ih y7 t6
      · exact hkx v1 t4
def fX4_quiet  (t : tSt) : Option (Int32 × tSt) :=
  ob (fX4_take (0) (1) t) (fun r1 t2 =>
  fX4_quiet_L13 (fun (v1_8 : Int32) (t9 : tSt) =>
    ob (fX4_hasStep t9) (fun r10 t11 =>
    jn (fun (x12 : Int32) (t13 : tSt) =>
      ob (fX4_take (1) (0) t13) (fun r15 t16 =>
      if x12 = 0 then
        some ((-2 : Int32), t16)
      else
        some (v1_8, t16)
      )
      ) (fun (j14 : Int32 → tSt → Option (Int32 × tSt)) =>
      if r10 = 0 then
        j14 (nI 1) t11
      else
        j14 (nI 0) t11
      )
    )
    ) FU (nI 0) t2
  )
set_option maxHeartbeats 4000000 in
theorem wX4_quiet (l : Launch) (Z : tZ) (hj : tInj Z)  (t : tSt)  : ∀ (r : Int32) (t' : tSt), fX4_quiet t = some (r, t') → tCt l Z yX4_quiet cX4_quiet 3 (some .int) 45 [.ref (Z.2.2.2 18)] t (some (.int r)) t' := by
  refine tmet (ρ := (fun x : Int32 => some (Value.int x))) (av := [.ref (Z.2.2.2 18)]) hj (by decide +kernel) (Nat.le_of_ble_eq_true rfl) (lv_args_cat (List.forall_mem_cons.mpr ⟨rfl, fun _ h => absurd h List.not_mem_nil⟩)) ?_
  intro X hln hC hnL hrt
  subst hln
  have hG := hC.1
  show GF X (tM Z X 3 (fun x : Int32 => some (Value.int x))) _ t 0 [(0, .ref (Z.2.2.2 18))] []
  unfold fX4_quiet
  refine gf_aload_n hG dX4_quiet_0 rfl rfl ?_
  refine tf_get hC 0 dX4_quiet_1 (by decide) q1287 rfl ?_
  refine gf_aload_n hG dX4_quiet_4 rfl rfl ?_
  refine tf_get hC 1 dX4_quiet_5 (by decide) q1288 rfl ?_
  refine tf_callS (f := fX4_take (0) (1) t) (As := [.ref (Z.2.2.2 0), .ref (Z.2.2.2 1)]) (rest := []) (n := 2) (d' := 1) (st1 := fun _ => []) hC hnL (wX4_take (gLn X) Z hC.2.2.1 (0) (1) t (by decide) (by decide)) dX4_quiet_8 (lw_S q1566 q1567 q78 q1568) (by decide +kernel) rfl (by decide) (by decide) (Nat.le_of_ble_eq_true rfl) (fun _ => rfl) (fun r1 t2 => ?_)
  refine gf_iconst hG (nI 0) dX4_quiet_11 (by decide) ?_
  refine gf_istore_n hG dX4_quiet_12 rfl (Nat.le_of_ble_eq_true rfl) (lv' := [(0, _), (1, _)]) rfl ?_
  refine gfX4_quiet_L13 hC hnL hrt  _ (fun v1_8 t9 => ?_) FU (nI 0) t2
  refine gf_aload_n hG dX4_quiet_37 rfl rfl ?_
  refine tf_callV (f := fX4_hasStep t9) (As := []) (rest := []) (n := 0) (d' := 4) (st1 := fun r10 => [.int r10]) hC hnL (wX4_hasStep (gLn X) Z hC.2.2.1 t9) dX4_quiet_38 (lw_V q1487 q1489 qs49 q78 q1490) (by decide +kernel) rfl (by decide) (by decide) (Nat.le_of_ble_eq_true rfl) (fun _ => rfl) (fun r10 t11 => ?_)
  refine gf_jn (fun j_ => ∀ (x12 : Int32) (t13 : tSt), GF X (tM Z X 3 (fun x : Int32 => some (Value.int x))) (j_ x12 t13) t13 49 [(0, .ref (Z.2.2.2 18)), (1, .int v1_8)] [.int x12]) (fun x12 t13 => ?_) (fun j14 hj14 => ?_)
  · refine gf_istore_n hG dX4_quiet_49 rfl (Nat.le_of_ble_eq_true rfl) (lv' := [(0, _), (1, _), (2, _)]) rfl ?_
    refine gf_aload_n hG dX4_quiet_50 rfl rfl ?_
    refine tf_get hC 1 dX4_quiet_51 (by decide) q1288 rfl ?_
    refine gf_aload_n hG dX4_quiet_54 rfl rfl ?_
    refine tf_get hC 0 dX4_quiet_55 (by decide) q1287 rfl ?_
    refine tf_callS (f := fX4_take (1) (0) t13) (As := [.ref (Z.2.2.2 1), .ref (Z.2.2.2 0)]) (rest := []) (n := 2) (d' := 1) (st1 := fun _ => []) hC hnL (wX4_take (gLn X) Z hC.2.2.1 (1) (0) t13 (by decide) (by decide)) dX4_quiet_58 (lw_S q1566 q1567 q78 q1568) (by decide +kernel) rfl (by decide) (by decide) (Nat.le_of_ble_eq_true rfl) (fun _ => rfl) (fun r15 t16 => ?_)
    refine gf_iload_n hG dX4_quiet_61 rfl rfl ?_
    refine gf_if_eq hG (tgt := 69) dX4_quiet_62 (by decide) ?_ ?_
    · refine gf_bipush hG (-2 : Int32) dX4_quiet_69 (by decide) ?_
      exact tf_ret hC hrt rfl rfl dX4_quiet_71
    · refine gf_iload_n hG dX4_quiet_65 rfl rfl ?_
      refine gf_goto hG (tgt := 71) dX4_quiet_66 (by decide) ?_
      exact tf_ret hC hrt rfl rfl dX4_quiet_71
  · refine gf_if_ne hG (tgt := 48) dX4_quiet_41 (by decide) ?_ ?_
    · refine gf_iconst hG (nI 1) dX4_quiet_44 (by decide) ?_
      refine gf_goto hG (tgt := 49) dX4_quiet_45 (by decide) ?_
      exact hj14 (nI 1) t11
    · refine gf_iconst hG (nI 0) dX4_quiet_48 (by decide) ?_
      exact hj14 (nI 0) t11
def fX4_would (v1 : Int32) (v2 : Int32) (v3 : Int32) (t : tSt) : Option (Int32 × tSt) :=
  ob (fX4_isActor v1 t) (fun r1 t2 =>
  if r1 = 0 then
    some ((-2000000000 : Int32), t2)
  else
    ob (fX4_isNumber v2 t2) (fun r3 t4 =>
    if r3 = 0 then
      some ((-2000000000 : Int32), t4)
    else
      ob (fX4_in v3 (nI 0) (nI 2) t4) (fun r5 t6 =>
      if r5 = 0 then
        some ((-2000000000 : Int32), t6)
      else
        ob (fX4_isLive v1 t6) (fun r7 t8 =>
        if r7 = 0 then
          some ((-2000000000 : Int32), t8)
        else
          ob (fX4_take (0) (1) t8) (fun r9 t10 =>
          letv (tup t10 18 5 (nI 0)) (fun t11 =>
          ob (fX4_deals v1 (-1 : Int32) v2 t11) (fun r12 t13 =>
          jn (fun (x14 : Int32) (t15 : tSt) =>
            ob (fX4_take (1) (0) t15) (fun r17 t18 =>
            some (x14, t18)
            )
            ) (fun (j16 : Int32 → tSt → Option (Int32 × tSt)) =>
            if v3 = 0 then
              ob (fX4_at v1 (nI 6) t13) (fun r19 t20 =>
              j16 r19 t20
              )
            else
              if v3 = (nI 1) then
                ob (fX4_at v1 (nI 5) t13) (fun r21 t22 =>
                j16 r21 t22
                )
              else
                if (t13 18 5) = 0 then
                  j16 (nI 0) t13
                else
                  rv (trd t13 4 (nI 1)) (fun x23 =>
                  j16 x23 t13
                  )
            )
          )
          )
          )
        )
      )
    )
  )
set_option maxHeartbeats 4000000 in
theorem wX4_would (l : Launch) (Z : tZ) (hj : tInj Z) (v1 : Int32) (v2 : Int32) (v3 : Int32) (t : tSt)  : ∀ (r : Int32) (t' : tSt), fX4_would v1 v2 v3 t = some (r, t') → tCt l Z yX4_would cX4_would 5 (some .int) 44 [.ref (Z.2.2.2 18), .int v1, .int v2, .int v3] t (some (.int r)) t' := by
  refine tmet (ρ := (fun x : Int32 => some (Value.int x))) (av := [.ref (Z.2.2.2 18), .int v1, .int v2, .int v3]) hj (by decide +kernel) (Nat.le_of_ble_eq_true rfl) (lv_args_cat (List.forall_mem_cons.mpr ⟨rfl, List.forall_mem_cons.mpr ⟨rfl, List.forall_mem_cons.mpr ⟨rfl, List.forall_mem_cons.mpr ⟨rfl, fun _ h => absurd h List.not_mem_nil⟩⟩⟩⟩)) ?_
  intro X hln hC hnL hrt
  subst hln
  have hG := hC.1
  show GF X (tM Z X 5 (fun x : Int32 => some (Value.int x))) _ t 0 [(0, .ref (Z.2.2.2 18)), (1, .int v1), (2, .int v2), (3, .int v3)] []
  unfold fX4_would
  refine gf_aload_n hG dX4_would_0 rfl rfl ?_
  refine gf_iload_n hG dX4_would_1 rfl rfl ?_
  refine tf_callV (f := fX4_isActor v1 t) (As := [.int v1]) (rest := []) (n := 1) (d' := 2) (st1 := fun r1 => [.int r1]) hC hnL (wX4_isActor (gLn X) Z hC.2.2.1 v1 t) dX4_would_2 (lw_V q1362 q1364 qs31 q78 q1365) (by decide +kernel) rfl (by decide) (by decide) (Nat.le_of_ble_eq_true rfl) (fun _ => rfl) (fun r1 t2 => ?_)
  refine gf_if_eq hG (tgt := 32) dX4_would_5 (by decide) ?_ ?_
  · refine gf_ldc hG (-2000000000 : Int32) dX4_would_32 q1419 ?_
    exact tf_ret hC hrt rfl rfl dX4_would_34
  · refine gf_iload_n hG dX4_would_8 rfl rfl ?_
    refine tf_callS (f := fX4_isNumber v2 t2) (As := [.int v2]) (rest := []) (n := 1) (d' := 2) (st1 := fun r3 => [.int r3]) hC hnL (wX4_isNumber (gLn X) Z hC.2.2.1 v2 t2) dX4_would_9 (lw_S q1388 q1389 q78 q1390) (by decide +kernel) rfl (by decide) (by decide) (Nat.le_of_ble_eq_true rfl) (fun _ => rfl) (fun r3 t4 => ?_)
    refine gf_if_eq hG (tgt := 32) dX4_would_12 (by decide) ?_ ?_
    · refine gf_ldc hG (-2000000000 : Int32) dX4_would_32 q1419 ?_
      exact tf_ret hC hrt rfl rfl dX4_would_34
    · refine gf_iload_n hG dX4_would_15 rfl rfl ?_
      refine gf_iconst hG (nI 0) dX4_would_16 (by decide) ?_
      refine gf_iconst hG (nI 2) dX4_would_17 (by decide) ?_
      refine tf_callS (f := fX4_in v3 (nI 0) (nI 2) t4) (As := [.int v3, .int (nI 0), .int (nI 2)]) (rest := []) (n := 3) (d' := 1) (st1 := fun r5 => [.int r5]) hC hnL (wX4_in (gLn X) Z hC.2.2.1 v3 (nI 0) (nI 2) t4) dX4_would_18 (lw_S q1366 q1367 q78 q1368) (by decide +kernel) rfl (by decide) (by decide) (Nat.le_of_ble_eq_true rfl) (fun _ => rfl) (fun r5 t6 => ?_)
      refine gf_if_eq hG (tgt := 32) dX4_would_21 (by decide) ?_ ?_
      · refine gf_ldc hG (-2000000000 : Int32) dX4_would_32 q1419 ?_
        exact tf_ret hC hrt rfl rfl dX4_would_34
      · refine gf_aload_n hG dX4_would_24 rfl rfl ?_
        refine gf_iload_n hG dX4_would_25 rfl rfl ?_
        refine tf_callV (f := fX4_isLive v1 t6) (As := [.int v1]) (rest := []) (n := 1) (d' := 2) (st1 := fun r7 => [.int r7]) hC hnL (wX4_isLive (gLn X) Z hC.2.2.1 v1 t6) dX4_would_26 (lw_V q1372 q1374 qs32 q78 q1375) (by decide +kernel) rfl (by decide) (by decide) (Nat.le_of_ble_eq_true rfl) (fun _ => rfl) (fun r7 t8 => ?_)
        refine gf_if_ne hG (tgt := 35) dX4_would_29 (by decide) ?_ ?_
        · refine gf_ldc hG (-2000000000 : Int32) dX4_would_32 q1419 ?_
          exact tf_ret hC hrt rfl rfl dX4_would_34
        · refine gf_aload_n hG dX4_would_35 rfl rfl ?_
          refine tf_get hC 0 dX4_would_36 (by decide) q1287 rfl ?_
          refine gf_aload_n hG dX4_would_39 rfl rfl ?_
          refine tf_get hC 1 dX4_would_40 (by decide) q1288 rfl ?_
          refine tf_callS (f := fX4_take (0) (1) t8) (As := [.ref (Z.2.2.2 0), .ref (Z.2.2.2 1)]) (rest := []) (n := 2) (d' := 1) (st1 := fun _ => []) hC hnL (wX4_take (gLn X) Z hC.2.2.1 (0) (1) t8 (by decide) (by decide)) dX4_would_43 (lw_S q1566 q1567 q78 q1568) (by decide +kernel) rfl (by decide) (by decide) (Nat.le_of_ble_eq_true rfl) (fun _ => rfl) (fun r9 t10 => ?_)
          refine gf_aload_n hG dX4_would_46 rfl rfl ?_
          refine gf_iconst hG (nI 0) dX4_would_47 (by decide) ?_
          refine tf_put hC 5 dX4_would_48 (by decide) q1292 rfl (by first | rfl | decide) (by first | rfl | decide) (fun _ => rfl) ?_
          refine gf_letS (fun t11 => ?_)
          refine gf_aload_n hG dX4_would_51 rfl rfl ?_
          refine gf_iload_n hG dX4_would_52 rfl rfl ?_
          refine gf_iconst hG (-1 : Int32) dX4_would_53 (by decide) ?_
          refine gf_iload_n hG dX4_would_54 rfl rfl ?_
          refine tf_callV (f := fX4_deals v1 (-1 : Int32) v2 t11) (As := [.int v1, .int (-1 : Int32), .int v2]) (rest := []) (n := 3) (d' := 43) (st1 := fun _ => []) hC hnL (wX4_deals (gLn X) Z hC.2.2.1 v1 (-1 : Int32) v2 t11) dX4_would_55 (lw_V q1506 q1508 qs53 q78 q1509) (by decide +kernel) rfl (by decide) (by decide) (Nat.le_of_ble_eq_true rfl) (fun _ => rfl) (fun r12 t13 => ?_)
          refine gf_iload_n hG dX4_would_58 rfl rfl ?_
          refine gf_jn (fun j_ => ∀ (x14 : Int32) (t15 : tSt), GF X (tM Z X 5 (fun x : Int32 => some (Value.int x))) (j_ x14 t15) t15 103 [(0, .ref (Z.2.2.2 18))] [.int x14]) (fun x14 t15 => ?_) (fun j16 hj16 => ?_)
          · refine gf_istore hG dX4_would_103 (Nat.le_of_ble_eq_true rfl) (lv' := [(0, _), (4, _)]) rfl ?_
            refine gf_aload_n hG dX4_would_105 rfl rfl ?_
            refine tf_get hC 1 dX4_would_106 (by decide) q1288 rfl ?_
            refine gf_aload_n hG dX4_would_109 rfl rfl ?_
            refine tf_get hC 0 dX4_would_110 (by decide) q1287 rfl ?_
            refine tf_callS (f := fX4_take (1) (0) t15) (As := [.ref (Z.2.2.2 1), .ref (Z.2.2.2 0)]) (rest := []) (n := 2) (d' := 1) (st1 := fun _ => []) hC hnL (wX4_take (gLn X) Z hC.2.2.1 (1) (0) t15 (by decide) (by decide)) dX4_would_113 (lw_S q1566 q1567 q78 q1568) (by decide +kernel) rfl (by decide) (by decide) (Nat.le_of_ble_eq_true rfl) (fun _ => rfl) (fun r17 t18 => ?_)
            refine gf_iload hG dX4_would_116 rfl ?_
            exact tf_ret hC hrt rfl rfl dX4_would_118
          · refine gf_if_ne hG (tgt := 72) dX4_would_59 (by decide) ?_ ?_
            · refine gf_aload_n hG dX4_would_62 rfl rfl ?_
              refine gf_iload_n hG dX4_would_63 rfl rfl ?_
              refine gf_bipush hG (nI 6) dX4_would_64 (by decide) ?_
              refine tf_callV (f := fX4_at v1 (nI 6) t13) (As := [.int v1, .int (nI 6)]) (rest := []) (n := 2) (d' := 1) (st1 := fun r19 => [.int r19]) hC hnL (wX4_at (gLn X) Z hC.2.2.1 v1 (nI 6) t13) dX4_would_66 (lw_V q1376 q1378 qs33 q78 q1379) (by decide +kernel) rfl (by decide) (by decide) (Nat.le_of_ble_eq_true rfl) (fun _ => rfl) (fun r19 t20 => ?_)
              refine gf_goto hG (tgt := 103) dX4_would_69 (by decide) ?_
              refine gf_sub [0] rfl ?_
              exact hj16 r19 t20
            · refine gf_iload_n hG dX4_would_72 rfl rfl ?_
              refine gf_iconst hG (nI 1) dX4_would_73 (by decide) ?_
              refine gf_icmp_ne hG (tgt := 86) dX4_would_74 (by decide) ?_ ?_
              · refine gf_aload_n hG dX4_would_77 rfl rfl ?_
                refine gf_iload_n hG dX4_would_78 rfl rfl ?_
                refine gf_iconst hG (nI 5) dX4_would_79 (by decide) ?_
                refine tf_callV (f := fX4_at v1 (nI 5) t13) (As := [.int v1, .int (nI 5)]) (rest := []) (n := 2) (d' := 1) (st1 := fun r21 => [.int r21]) hC hnL (wX4_at (gLn X) Z hC.2.2.1 v1 (nI 5) t13) dX4_would_80 (lw_V q1376 q1378 qs33 q78 q1379) (by decide +kernel) rfl (by decide) (by decide) (Nat.le_of_ble_eq_true rfl) (fun _ => rfl) (fun r21 t22 => ?_)
                refine gf_goto hG (tgt := 103) dX4_would_83 (by decide) ?_
                refine gf_sub [0] rfl ?_
                exact hj16 r21 t22
              · refine gf_aload_n hG dX4_would_86 rfl rfl ?_
                refine tf_get hC 5 dX4_would_87 (by decide) q1292 rfl ?_
                refine gf_if_eq hG (tgt := 102) dX4_would_90 (by decide) ?_ ?_
                · refine gf_iconst hG (nI 0) dX4_would_102 (by decide) ?_
                  refine gf_sub [0] rfl ?_
                  exact hj16 (nI 0) t13
                · refine gf_aload_n hG dX4_would_93 rfl rfl ?_
                  refine tf_get hC 8 dX4_would_94 (by decide) q1295 rfl ?_
                  refine gf_iconst hG (nI 1) dX4_would_97 (by decide) ?_
                  refine tf_iald hC dX4_would_98 (by decide) (fun x23 => ?_)
                  refine gf_goto hG (tgt := 103) dX4_would_99 (by decide) ?_
                  refine gf_sub [0] rfl ?_
                  exact hj16 x23 t13
