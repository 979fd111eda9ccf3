/-! walks, by program -/
def fX4_image  (t : tSt) : Option (Int32 × tSt) :=
  ob (fX4_take (0) (3) t) (fun r1 t2 =>
  letv (tup t2 18 4 (nI 1)) (fun t3 =>
  rv (trd t3 0 (nI 924)) (fun x4 =>
  some (x4, t3)
  )
  )
  )
set_option maxHeartbeats 4000000 in
theorem wX4_image (l : Launch) (Z : tZ) (hj : tInj Z)  (t : tSt)  : ∀ (r : Int32) (t' : tSt), fX4_image t = some (r, t') → tCt l Z yX4_image cX4_image 1 (some .int) 2 [.ref (Z.2.2.2 18)] t (some (.int r)) t' := by
  refine tmet (ρ := (fun x : Int32 => some (Value.int x))) (av := [.ref (Z.2.2.2 18)]) hj (by decide +kernel) (Nat.le_of_ble_eq_true rfl) (lv_args_cat (List.forall_mem_cons.mpr ⟨rfl, fun _ h => absurd h List.not_mem_nil⟩)) ?_
  intro X hln hC hnL hrt
  subst hln
  have hG := hC.1
  show GF X (tM Z X 1 (fun x : Int32 => some (Value.int x))) _ t 0 [(0, .ref (Z.2.2.2 18))] []
  unfold fX4_image
  refine gf_aload_n hG dX4_image_0 rfl rfl ?_
  refine tf_get hC 0 dX4_image_1 (by decide) q1287 rfl ?_
  refine gf_aload_n hG dX4_image_4 rfl rfl ?_
  refine tf_get hC 3 dX4_image_5 (by decide) q1290 rfl ?_
  refine tf_callS (f := fX4_take (0) (3) t) (As := [.ref (Z.2.2.2 0), .ref (Z.2.2.2 3)]) (rest := []) (n := 2) (d' := 1) (st1 := fun _ => []) hC hnL (wX4_take (gLn X) Z hC.2.2.1 (0) (3) t (by decide) (by decide)) dX4_image_8 (lw_S q1566 q1567 q78 q1568) (by decide +kernel) rfl (by decide) (by decide) (Nat.le_of_ble_eq_true rfl) (fun _ => rfl) (fun r1 t2 => ?_)
  refine gf_aload_n hG dX4_image_11 rfl rfl ?_
  refine gf_iconst hG (nI 1) dX4_image_12 (by decide) ?_
  refine tf_put hC 4 dX4_image_13 (by decide) q1291 rfl (by first | rfl | decide) (by first | rfl | decide) (fun _ => rfl) ?_
  refine gf_letS (fun t3 => ?_)
  refine gf_aload_n hG dX4_image_16 rfl rfl ?_
  refine tf_get hC 0 dX4_image_17 (by decide) q1287 rfl ?_
  refine gf_sipush hG (nI 924) dX4_image_20 (by decide) ?_
  refine tf_iald hC dX4_image_23 (by decide) (fun x4 => ?_)
  exact tf_ret hC hrt rfl rfl dX4_image_24
def fX4_back_L23  (kx : tSt → Option (Int32 × tSt)) : Nat → Int32 → tSt → Option (Int32 × tSt)
  | 0, _, _ => none
  | k + 1, v1, t =>
    if v1 < (nI 6) then
      rv (trd t 6 v1) (fun x3 =>
      jn (fun (x4 : Int32) (t5 : tSt) =>
        rv (twr t5 6 v1 x4) (fun t7 =>
        letv (v1 + (nI 1)) (fun y8 =>
        fX4_back_L23 kx k y8 t7
        )
        )
        ) (fun (j6 : Int32 → tSt → Option (Int32 × tSt)) =>
        jn (fun  (t9 : tSt) =>
          rv (trd t9 6 v1) (fun x11 =>
          j6 x11 t9
          )
          ) (fun (j10 : tSt → Option (Int32 × tSt)) =>
          if x3 = (nI 1) then
            rv (trd t 7 v1) (fun x12 =>
            rv (trd t 0 (nI 924)) (fun x13 =>
            if x12 < x13 then
              j10 t
            else
              j6 (nI 0) t
            )
            )
          else
            j10 t
          )
        )
      )
    else
      kx t
set_option maxHeartbeats 4000000 in
theorem gfX4_back_L23 {X : gCx} {Z : tZ} (hC : tOk X Z RX4 cX4_back 2) (hnL : gLoc X = 2) (hrt : gRet X = (some .int))   (kx : tSt → Option (Int32 × tSt)) (hkx : ∀  (t : tSt), GF X (tM Z X 2 (fun x : Int32 => some (Value.int x))) (kx t) t 78 [(0, .ref (Z.2.2.2 18))] []) : ∀ (k : Nat) (v1 : Int32) (t : tSt), GF X (tM Z X 2 (fun x : Int32 => some (Value.int x))) (fX4_back_L23 kx k v1 t) t 23 [(0, .ref (Z.2.2.2 18)), (1, .int v1)] [] := by
  have hG := hC.1
  intro k
  induction k with
  | zero => intro v1 t; exact gf_none
  | succ k ih =>
    intro v1 t
    rw [fX4_back_L23]
    refine gf_iload_n hG dX4_back_23 rfl rfl ?_
    refine gf_bipush hG (nI 6) dX4_back_24 (by decide) ?_
    refine gf_icmp_ge hG (tgt := 78) dX4_back_26 (by decide) ?_ ?_
    · refine gf_aload_n hG dX4_back_29 rfl rfl ?_
      refine tf_get hC 12 dX4_back_30 (by decide) q1299 rfl ?_
      refine gf_iload_n hG dX4_back_33 rfl rfl ?_
      refine gf_aload_n hG dX4_back_34 rfl rfl ?_
      refine tf_get hC 12 dX4_back_35 (by decide) q1299 rfl ?_
      refine gf_iload_n hG dX4_back_38 rfl rfl ?_
      refine tf_iald hC dX4_back_39 (by decide) (fun x3 => ?_)
      refine gf_iconst hG (nI 1) dX4_back_40 (by decide) ?_
      refine gf_jn (fun j_ => ∀ (x4 : Int32) (t5 : tSt), GF X (tM Z X 2 (fun x : Int32 => some (Value.int x))) (j_ x4 t5) t5 71 [(0, .ref (Z.2.2.2 18)), (1, .int v1)] [.int x4, .int v1, .ref (Z.2.2.2 6)]) (fun x4 t5 => ?_) (fun j6 hj6 => ?_)
      · refine tf_iast hC dX4_back_71 (by decide) (fun t7 => ?_)
        refine gf_letiinc hG (c := (nI 1)) (lv' := fun y8 => [(0, .ref (Z.2.2.2 18)), (1, .int y8)]) dX4_back_72 rfl (by decide) (Nat.le_of_ble_eq_true rfl) (fun _ => rfl) (fun y8 => ?_)
        refine gf_goto hG (tgt := 23) dX4_back_75 (by decide) ?_
        exact ih y8 t7
      · refine gf_jn (fun j_ => ∀  (t9 : tSt), GF X (tM Z X 2 (fun x : Int32 => some (Value.int x))) (j_ t9) t9 65 [(0, .ref (Z.2.2.2 18)), (1, .int v1)] [.int v1, .ref (Z.2.2.2 6)]) (fun t9 => ?_) (fun j10 hj10 => ?_)
        · refine gf_aload_n hG dX4_back_65 rfl rfl ?_
          refine tf_get hC 12 dX4_back_66 (by decide) q1299 rfl ?_
          refine gf_iload_n hG dX4_back_69 rfl rfl ?_
          refine tf_iald hC dX4_back_70 (by decide) (fun x11 => ?_)
          exact hj6 x11 t9
        · refine gf_icmp_ne hG (tgt := 65) dX4_back_41 (by decide) ?_ ?_
          · refine gf_aload_n hG dX4_back_44 rfl rfl ?_
            refine tf_get hC 13 dX4_back_45 (by decide) q1300 rfl ?_
            refine gf_iload_n hG dX4_back_48 rfl rfl ?_
            refine tf_iald hC dX4_back_49 (by decide) (fun x12 => ?_)
            refine gf_aload_n hG dX4_back_50 rfl rfl ?_
            refine tf_get hC 0 dX4_back_51 (by decide) q1287 rfl ?_
            refine gf_sipush hG (nI 924) dX4_back_54 (by decide) ?_
            refine tf_iald hC dX4_back_57 (by decide) (fun x13 => ?_)
            refine gf_icmp_lt hG (tgt := 65) dX4_back_58 (by decide) ?_ ?_
            · exact hj10 t
            · refine gf_iconst hG (nI 0) dX4_back_61 (by decide) ?_
              refine gf_goto hG (tgt := 71) dX4_back_62 (by decide) ?_
              exact hj6 (nI 0) t
          · exact hj10 t
    · refine gf_sub [0] rfl ?_
      exact hkx t
def fX4_back  (t : tSt) : Option (Int32 × tSt) :=
  if (t 18 4) = 0 then
    some ((-5 : Int32), t)
  else
    ob (fX4_take (3) (0) t) (fun r1 t2 =>
    fX4_back_L23 (fun  (t14 : tSt) =>
      rv (trd t14 0 (nI 924)) (fun x15 =>
      some (x15, t14)
      )
      ) FU (nI 0) t2
    )
set_option maxHeartbeats 4000000 in
theorem wX4_back (l : Launch) (Z : tZ) (hj : tInj Z)  (t : tSt)  : ∀ (r : Int32) (t' : tSt), fX4_back t = some (r, t') → tCt l Z yX4_back cX4_back 2 (some .int) 2 [.ref (Z.2.2.2 18)] t (some (.int r)) t' := by
  refine tmet (ρ := (fun x : Int32 => some (Value.int x))) (av := [.ref (Z.2.2.2 18)]) hj (by decide +kernel) (Nat.le_of_ble_eq_true rfl) (lv_args_cat (List.forall_mem_cons.mpr ⟨rfl, fun _ h => absurd h List.not_mem_nil⟩)) ?_
  intro X hln hC hnL hrt
  subst hln
  have hG := hC.1
  show GF X (tM Z X 2 (fun x : Int32 => some (Value.int x))) _ t 0 [(0, .ref (Z.2.2.2 18))] []
  unfold fX4_back
  refine gf_aload_n hG dX4_back_0 rfl rfl ?_
  refine tf_get hC 4 dX4_back_1 (by decide) q1291 rfl ?_
  refine gf_if_ne hG (tgt := 10) dX4_back_4 (by decide) ?_ ?_
  · refine gf_bipush hG (-5 : Int32) dX4_back_7 (by decide) ?_
    exact tf_ret hC hrt rfl rfl dX4_back_9
  · refine gf_aload_n hG dX4_back_10 rfl rfl ?_
    refine tf_get hC 3 dX4_back_11 (by decide) q1290 rfl ?_
    refine gf_aload_n hG dX4_back_14 rfl rfl ?_
    refine tf_get hC 0 dX4_back_15 (by decide) q1287 rfl ?_
    refine tf_callS (f := fX4_take (3) (0) t) (As := [.ref (Z.2.2.2 3), .ref (Z.2.2.2 0)]) (rest := []) (n := 2) (d' := 1) (st1 := fun _ => []) hC hnL (wX4_take (gLn X) Z hC.2.2.1 (3) (0) t (by decide) (by decide)) dX4_back_18 (lw_S q1566 q1567 q78 q1568) (by decide +kernel) rfl (by decide) (by decide) (Nat.le_of_ble_eq_true rfl) (fun _ => rfl) (fun r1 t2 => ?_)
    refine gf_iconst hG (nI 0) dX4_back_21 (by decide) ?_
    refine gf_istore_n hG dX4_back_22 rfl (Nat.le_of_ble_eq_true rfl) (lv' := [(0, _), (1, _)]) rfl ?_
    refine gfX4_back_L23 hC hnL hrt  _ (fun t14 => ?_) FU (nI 0) t2
    refine gf_aload_n hG dX4_back_78 rfl rfl ?_
    refine tf_get hC 0 dX4_back_79 (by decide) q1287 rfl ?_
    refine gf_sipush hG (nI 924) dX4_back_82 (by decide) ?_
    refine tf_iald hC dX4_back_85 (by decide) (fun x15 => ?_)
    exact tf_ret hC hrt rfl rfl dX4_back_86
def fX4_hold (v1 : Int32) (v2 : Int32) (t : tSt) : Option (Int32 × tSt) :=
  ob (fX4_isHandle v1 t) (fun r1 t2 =>
  if r1 = 0 then
    some ((-1 : Int32), t2)
  else
    jn (fun  (t3 : tSt) =>
      jn (fun (x5 : Int32) (t6 : tSt) =>
        rv (twr t6 6 v1 x5) (fun t8 =>
        rv (twr t8 7 v1 v2) (fun t9 =>
        some ((nI 1), t9)
        )
        )
        ) (fun (j7 : Int32 → tSt → Option (Int32 × tSt)) =>
        if v2 = (-1 : Int32) then
          j7 (nI 0) t3
        else
          j7 (nI 1) t3
        )
      ) (fun (j4 : tSt → Option (Int32 × tSt)) =>
      if v2 = (-1 : Int32) then
        j4 t2
      else
        ob (fX4_isActor v2 t2) (fun r10 t11 =>
        if r10 = 0 then
          some ((-1 : Int32), t11)
        else
          j4 t11
        )
      )
  )
set_option maxHeartbeats 4000000 in
theorem wX4_hold (l : Launch) (Z : tZ) (hj : tInj Z) (v1 : Int32) (v2 : Int32) (t : tSt)  : ∀ (r : Int32) (t' : tSt), fX4_hold v1 v2 t = some (r, t') → tCt l Z yX4_hold cX4_hold 3 (some .int) 3 [.ref (Z.2.2.2 18), .int v1, .int v2] t (some (.int r)) t' := by
  refine tmet (ρ := (fun x : Int32 => some (Value.int x))) (av := [.ref (Z.2.2.2 18), .int v1, .int v2]) hj (by decide +kernel) (Nat.le_of_ble_eq_true rfl) (lv_args_cat (List.forall_mem_cons.mpr ⟨rfl, List.forall_mem_cons.mpr ⟨rfl, List.forall_mem_cons.mpr ⟨rfl, fun _ h => absurd h List.not_mem_nil⟩⟩⟩)) ?_
  intro X hln hC hnL hrt
  subst hln
  have hG := hC.1
  show GF X (tM Z X 3 (fun x : Int32 => some (Value.int x))) _ t 0 [(0, .ref (Z.2.2.2 18)), (1, .int v1), (2, .int v2)] []
  unfold fX4_hold
  refine gf_aload_n hG dX4_hold_0 rfl rfl ?_
  refine gf_iload_n hG dX4_hold_1 rfl rfl ?_
  refine tf_callV (f := fX4_isHandle v1 t) (As := [.int v1]) (rest := []) (n := 1) (d' := 2) (st1 := fun r1 => [.int r1]) hC hnL (wX4_isHandle (gLn X) Z hC.2.2.1 v1 t) dX4_hold_2 (lw_V q1640 q1642 qs71 q78 q1643) (by decide +kernel) rfl (by decide) (by decide) (Nat.le_of_ble_eq_true rfl) (fun _ => rfl) (fun r1 t2 => ?_)
  refine gf_if_eq hG (tgt := 21) dX4_hold_5 (by decide) ?_ ?_
  · refine gf_iconst hG (-1 : Int32) dX4_hold_21 (by decide) ?_
    exact tf_ret hC hrt rfl rfl dX4_hold_22
  · refine gf_iload_n hG dX4_hold_8 rfl rfl ?_
    refine gf_iconst hG (-1 : Int32) dX4_hold_9 (by decide) ?_
    refine gf_jn (fun j_ => ∀  (t3 : tSt), GF X (tM Z X 3 (fun x : Int32 => some (Value.int x))) (j_ t3) t3 23 [(0, .ref (Z.2.2.2 18)), (1, .int v1), (2, .int v2)] []) (fun t3 => ?_) (fun j4 hj4 => ?_)
    · refine gf_aload_n hG dX4_hold_23 rfl rfl ?_
      refine tf_get hC 12 dX4_hold_24 (by decide) q1299 rfl ?_
      refine gf_iload_n hG dX4_hold_27 rfl rfl ?_
      refine gf_iload_n hG dX4_hold_28 rfl rfl ?_
      refine gf_iconst hG (-1 : Int32) dX4_hold_29 (by decide) ?_
      refine gf_jn (fun j_ => ∀ (x5 : Int32) (t6 : tSt), GF X (tM Z X 3 (fun x : Int32 => some (Value.int x))) (j_ x5 t6) t6 38 [(0, .ref (Z.2.2.2 18)), (1, .int v1), (2, .int v2)] [.int x5, .int v1, .ref (Z.2.2.2 6)]) (fun x5 t6 => ?_) (fun j7 hj7 => ?_)
      · refine tf_iast hC dX4_hold_38 (by decide) (fun t8 => ?_)
        refine gf_aload_n hG dX4_hold_39 rfl rfl ?_
        refine tf_get hC 13 dX4_hold_40 (by decide) q1300 rfl ?_
        refine gf_iload_n hG dX4_hold_43 rfl rfl ?_
        refine gf_iload_n hG dX4_hold_44 rfl rfl ?_
        refine tf_iast hC dX4_hold_45 (by decide) (fun t9 => ?_)
        refine gf_iconst hG (nI 1) dX4_hold_46 (by decide) ?_
        exact tf_ret hC hrt rfl rfl dX4_hold_47
      · refine gf_icmp_ne hG (tgt := 37) dX4_hold_30 (by decide) ?_ ?_
        · refine gf_iconst hG (nI 0) dX4_hold_33 (by decide) ?_
          refine gf_goto hG (tgt := 38) dX4_hold_34 (by decide) ?_
          exact hj7 (nI 0) t3
        · refine gf_iconst hG (nI 1) dX4_hold_37 (by decide) ?_
          exact hj7 (nI 1) t3
    · refine gf_icmp_eq hG (tgt := 23) dX4_hold_10 (by decide) ?_ ?_
      · exact hj4 t2
      · refine gf_aload_n hG dX4_hold_13 rfl rfl ?_
        refine gf_iload_n hG dX4_hold_14 rfl rfl ?_
        refine tf_callV (f := fX4_isActor v2 t2) (As := [.int v2]) (rest := []) (n := 1) (d' := 2) (st1 := fun r10 => [.int r10]) hC hnL (wX4_isActor (gLn X) Z hC.2.2.1 v2 t2) dX4_hold_15 (lw_V q1362 q1364 qs31 q78 q1365) (by decide +kernel) rfl (by decide) (by decide) (Nat.le_of_ble_eq_true rfl) (fun _ => rfl) (fun r10 t11 => ?_)
        refine gf_if_ne hG (tgt := 23) dX4_hold_18 (by decide) ?_ ?_
        · refine gf_iconst hG (-1 : Int32) dX4_hold_21 (by decide) ?_
          exact tf_ret hC hrt rfl rfl dX4_hold_22
        · exact hj4 t11
def fX4_row_L39 (v1 : Int32) (kx : tSt → Option (Int32 × tSt)) : Nat → Int32 → tSt → Option (Int32 × tSt)
  | 0, _, _ => none
  | k + 1, v3, t =>
    if v3 < (nI 60) then
      rv (trow v1) (fun n5 =>
      rv (twr t n5 v3 (nI 0)) (fun t6 =>
      letv (v3 + (nI 1)) (fun y7 =>
      fX4_row_L39 v1 kx k y7 t6
      )
      )
      )
    else
      kx t
set_option maxHeartbeats 4000000 in
theorem gfX4_row_L39 {X : gCx} {Z : tZ} (hC : tOk X Z RX4 cX4_row 3) (hnL : gLoc X = 4) (hrt : gRet X = (some .int)) (v1 : Int32)  (kx : tSt → Option (Int32 × tSt)) (hkx : ∀  (t : tSt), GF X (tM Z X 4 (fun x : Int32 => some (Value.int x))) (kx t) t 60 [] []) : ∀ (k : Nat) (v3 : Int32) (t : tSt), GF X (tM Z X 4 (fun x : Int32 => some (Value.int x))) (fX4_row_L39 v1 kx k v3 t) t 39 [(0, .ref (Z.2.2.2 18)), (1, .int v1), (3, .int v3)] [] := by
  have hG := hC.1
  intro k
  induction k with
  | zero => intro v3 t; exact gf_none
  | succ k ih =>
    intro v3 t
    rw [fX4_row_L39]
    refine gf_iload_n hG dX4_row_39 rfl rfl ?_
    refine gf_bipush hG (nI 60) dX4_row_40 (by decide) ?_
    refine gf_icmp_ge hG (tgt := 60) dX4_row_42 (by decide) ?_ ?_
    · refine gf_aload_n hG dX4_row_45 rfl rfl ?_
      refine tf_get hC 15 dX4_row_46 (by decide) q1302 rfl ?_
      refine gf_iload_n hG dX4_row_49 rfl rfl ?_
      refine tf_aald hC dX4_row_50 (fun n5 hn5 => ?_)
      refine gf_iload_n hG dX4_row_51 rfl rfl ?_
      refine gf_iconst hG (nI 0) dX4_row_52 (by decide) ?_
      refine tf_iast hC dX4_row_53 hn5 (fun t6 => ?_)
      refine gf_letiinc hG (c := (nI 1)) (lv' := fun y7 => [(0, .ref (Z.2.2.2 18)), (1, .int v1), (3, .int y7)]) dX4_row_54 rfl (by decide) (Nat.le_of_ble_eq_true rfl) (fun _ => rfl) (fun y7 => ?_)
      refine gf_goto hG (tgt := 39) dX4_row_57 (by decide) ?_
      exact ih y7 t6
    · refine gf_sub [] rfl ?_
      exact hkx t
def fX4_row (v1 : Int32) (v2 : Int32) (t : tSt) : Option (Int32 × tSt) :=
  ob (fX4_isHandle v1 t) (fun r1 t2 =>
  if r1 = 0 then
    some ((-1 : Int32), t2)
  else
    if (nI 60) < v2 then
      some ((-1 : Int32), t2)
    else
      if v2 < 0 then
        some ((-14 : Int32), t2)
      else
        rv (twr t2 6 v1 (nI 2)) (fun t3 =>
        rv (twr t3 8 v1 v2) (fun t4 =>
        fX4_row_L39 v1 (fun  (t8 : tSt) =>
          some ((nI 1), t8)
          ) FU (nI 0) t4
        )
        )
  )
set_option maxHeartbeats 4000000 in
theorem wX4_row (l : Launch) (Z : tZ) (hj : tInj Z) (v1 : Int32) (v2 : Int32) (t : tSt)  : ∀ (r : Int32) (t' : tSt), fX4_row v1 v2 t = some (r, t') → tCt l Z yX4_row cX4_row 4 (some .int) 3 [.ref (Z.2.2.2 18), .int v1, .int v2] t (some (.int r)) t' := by
  refine tmet (ρ := (fun x : Int32 => some (Value.int x))) (av := [.ref (Z.2.2.2 18), .int v1, .int v2]) hj (by decide +kernel) (Nat.le_of_ble_eq_true rfl) (lv_args_cat (List.forall_mem_cons.mpr ⟨rfl, List.forall_mem_cons.mpr ⟨rfl, List.forall_mem_cons.mpr ⟨rfl, fun _ h => absurd h List.not_mem_nil⟩⟩⟩)) ?_
  intro X hln hC hnL hrt
  subst hln
  have hG := hC.1
  show GF X (tM Z X 4 (fun x : Int32 => some (Value.int x))) _ t 0 [(0, .ref (Z.2.2.2 18)), (1, .int v1), (2, .int v2)] []
  unfold fX4_row
  refine gf_aload_n hG dX4_row_0 rfl rfl ?_
  refine gf_iload_n hG dX4_row_1 rfl rfl ?_
  refine tf_callV (f := fX4_isHandle v1 t) (As := [.int v1]) (rest := []) (n := 1) (d' := 2) (st1 := fun r1 => [.int r1]) hC hnL (wX4_isHandle (gLn X) Z hC.2.2.1 v1 t) dX4_row_2 (lw_V q1640 q1642 qs71 q78 q1643) (by decide +kernel) rfl (by decide) (by decide) (Nat.le_of_ble_eq_true rfl) (fun _ => rfl) (fun r1 t2 => ?_)
  refine gf_if_eq hG (tgt := 14) dX4_row_5 (by decide) ?_ ?_
  · refine gf_iconst hG (-1 : Int32) dX4_row_14 (by decide) ?_
    exact tf_ret hC hrt rfl rfl dX4_row_15
  · refine gf_iload_n hG dX4_row_8 rfl rfl ?_
    refine gf_bipush hG (nI 60) dX4_row_9 (by decide) ?_
    refine gf_icmp_le hG (tgt := 16) dX4_row_11 (by decide) ?_ ?_
    · refine gf_iconst hG (-1 : Int32) dX4_row_14 (by decide) ?_
      exact tf_ret hC hrt rfl rfl dX4_row_15
    · refine gf_iload_n hG dX4_row_16 rfl rfl ?_
      refine gf_if_ge hG (tgt := 23) dX4_row_17 (by decide) ?_ ?_
      · refine gf_bipush hG (-14 : Int32) dX4_row_20 (by decide) ?_
        exact tf_ret hC hrt rfl rfl dX4_row_22
      · refine gf_aload_n hG dX4_row_23 rfl rfl ?_
        refine tf_get hC 12 dX4_row_24 (by decide) q1299 rfl ?_
        refine gf_iload_n hG dX4_row_27 rfl rfl ?_
        refine gf_iconst hG (nI 2) dX4_row_28 (by decide) ?_
        refine tf_iast hC dX4_row_29 (by decide) (fun t3 => ?_)
        refine gf_aload_n hG dX4_row_30 rfl rfl ?_
        refine tf_get hC 14 dX4_row_31 (by decide) q1301 rfl ?_
        refine gf_iload_n hG dX4_row_34 rfl rfl ?_
        refine gf_iload_n hG dX4_row_35 rfl rfl ?_
        refine tf_iast hC dX4_row_36 (by decide) (fun t4 => ?_)
        refine gf_iconst hG (nI 0) dX4_row_37 (by decide) ?_
        refine gf_istore_n hG dX4_row_38 rfl (Nat.le_of_ble_eq_true rfl) (lv' := [(0, _), (1, _), (2, _), (3, _)]) rfl ?_
        refine gf_sub [0, 1, 3] rfl ?_
        refine gfX4_row_L39 hC hnL hrt v1 _ (fun t8 => ?_) FU (nI 0) t4
        refine gf_iconst hG (nI 1) dX4_row_60 (by decide) ?_
        exact tf_ret hC hrt rfl rfl dX4_row_61
def fX4_put (v1 : Int32) (v2 : Int32) (v3 : Int32) (t : tSt) : Option (Int32 × tSt) :=
  ob (fX4_isHandle v1 t) (fun r1 t2 =>
  if r1 = 0 then
    some ((-2000000000 : Int32), t2)
  else
    rv (trd t2 6 v1) (fun x3 =>
    if x3 = (nI 2) then
      rv (trd t2 8 v1) (fun x4 =>
      ob (fX4_in v2 (nI 0) (x4 - (nI 1)) t2) (fun r5 t6 =>
      if r5 = 0 then
        some ((-2000000000 : Int32), t6)
      else
        rv (trow v1) (fun n7 =>
        rv (trd t6 n7 v2) (fun x8 =>
        rv (trow v1) (fun n9 =>
        rv (twr t6 n9 v2 v3) (fun t10 =>
        some (x8, t10)
        )
        )
        )
        )
      )
      )
    else
      some ((-2000000000 : Int32), t2)
    )
  )
set_option maxHeartbeats 4000000 in
theorem wX4_put (l : Launch) (Z : tZ) (hj : tInj Z) (v1 : Int32) (v2 : Int32) (v3 : Int32) (t : tSt)  : ∀ (r : Int32) (t' : tSt), fX4_put v1 v2 v3 t = some (r, t') → tCt l Z yX4_put cX4_put 5 (some .int) 3 [.ref (Z.2.2.2 18), .int v1, .int v2, .int v3] t (some (.int r)) t' := by
  refine tmet (ρ := (fun x : Int32 => some (Value.int x))) (av := [.ref (Z.2.2.2 18), .int v1, .int v2, .int v3]) hj (by decide +kernel) (Nat.le_of_ble_eq_true rfl) (lv_args_cat (List.forall_mem_cons.mpr ⟨rfl, List.forall_mem_cons.mpr ⟨rfl, List.forall_mem_cons.mpr ⟨rfl, List.forall_mem_cons.mpr ⟨rfl, fun _ h => absurd h List.not_mem_nil⟩⟩⟩⟩)) ?_
  intro X hln hC hnL hrt
  subst hln
  have hG := hC.1
  show GF X (tM Z X 5 (fun x : Int32 => some (Value.int x))) _ t 0 [(0, .ref (Z.2.2.2 18)), (1, .int v1), (2, .int v2), (3, .int v3)] []
  unfold fX4_put
  refine gf_aload_n hG dX4_put_0 rfl rfl ?_
  refine gf_iload_n hG dX4_put_1 rfl rfl ?_
  refine tf_callV (f := fX4_isHandle v1 t) (As := [.int v1]) (rest := []) (n := 1) (d' := 2) (st1 := fun r1 => [.int r1]) hC hnL (wX4_isHandle (gLn X) Z hC.2.2.1 v1 t) dX4_put_2 (lw_V q1640 q1642 qs71 q78 q1643) (by decide +kernel) rfl (by decide) (by decide) (Nat.le_of_ble_eq_true rfl) (fun _ => rfl) (fun r1 t2 => ?_)
  refine gf_if_eq hG (tgt := 34) dX4_put_5 (by decide) ?_ ?_
  · refine gf_ldc hG (-2000000000 : Int32) dX4_put_34 q1419 ?_
    exact tf_ret hC hrt rfl rfl dX4_put_36
  · refine gf_aload_n hG dX4_put_8 rfl rfl ?_
    refine tf_get hC 12 dX4_put_9 (by decide) q1299 rfl ?_
    refine gf_iload_n hG dX4_put_12 rfl rfl ?_
    refine tf_iald hC dX4_put_13 (by decide) (fun x3 => ?_)
    refine gf_iconst hG (nI 2) dX4_put_14 (by decide) ?_
    refine gf_icmp_ne hG (tgt := 34) dX4_put_15 (by decide) ?_ ?_
    · refine gf_iload_n hG dX4_put_18 rfl rfl ?_
      refine gf_iconst hG (nI 0) dX4_put_19 (by decide) ?_
      refine gf_aload_n hG dX4_put_20 rfl rfl ?_
      refine tf_get hC 14 dX4_put_21 (by decide) q1301 rfl ?_
      refine gf_iload_n hG dX4_put_24 rfl rfl ?_
      refine tf_iald hC dX4_put_25 (by decide) (fun x4 => ?_)
      refine gf_iconst hG (nI 1) dX4_put_26 (by decide) ?_
      refine gf_isub hG dX4_put_27 ?_
      refine tf_callS (f := fX4_in v2 (nI 0) (x4 - (nI 1)) t2) (As := [.int v2, .int (nI 0), .int (x4 - (nI 1))]) (rest := []) (n := 3) (d' := 1) (st1 := fun r5 => [.int r5]) hC hnL (wX4_in (gLn X) Z hC.2.2.1 v2 (nI 0) (x4 - (nI 1)) t2) dX4_put_28 (lw_S q1366 q1367 q78 q1368) (by decide +kernel) rfl (by decide) (by decide) (Nat.le_of_ble_eq_true rfl) (fun _ => rfl) (fun r5 t6 => ?_)
      refine gf_if_ne hG (tgt := 37) dX4_put_31 (by decide) ?_ ?_
      · refine gf_ldc hG (-2000000000 : Int32) dX4_put_34 q1419 ?_
        exact tf_ret hC hrt rfl rfl dX4_put_36
      · refine gf_aload_n hG dX4_put_37 rfl rfl ?_
        refine tf_get hC 15 dX4_put_38 (by decide) q1302 rfl ?_
        refine gf_iload_n hG dX4_put_41 rfl rfl ?_
        refine tf_aald hC dX4_put_42 (fun n7 hn7 => ?_)
        refine gf_iload_n hG dX4_put_43 rfl rfl ?_
        refine tf_iald hC dX4_put_44 hn7 (fun x8 => ?_)
        refine gf_istore hG dX4_put_45 (Nat.le_of_ble_eq_true rfl) (lv' := [(0, _), (1, _), (2, _), (3, _), (4, _)]) rfl ?_
        refine gf_aload_n hG dX4_put_47 rfl rfl ?_
        refine tf_get hC 15 dX4_put_48 (by decide) q1302 rfl ?_
        refine gf_iload_n hG dX4_put_51 rfl rfl ?_
        refine tf_aald hC dX4_put_52 (fun n9 hn9 => ?_)
        refine gf_iload_n hG dX4_put_53 rfl rfl ?_
        refine gf_iload_n hG dX4_put_54 rfl rfl ?_
        refine tf_iast hC dX4_put_55 hn9 (fun t10 => ?_)
        refine gf_iload hG dX4_put_56 rfl ?_
        exact tf_ret hC hrt rfl rfl dX4_put_58
    · refine gf_ldc hG (-2000000000 : Int32) dX4_put_34 q1419 ?_
      exact tf_ret hC hrt rfl rfl dX4_put_36
def fX4_tells (v1 : Int32) (v2 : Int32) (t : tSt) : Option (Int32 × tSt) :=
  ob (fX4_isHandle v1 t) (fun r1 t2 =>
  if r1 = 0 then
    some ((-2000000000 : Int32), t2)
  else
    ob (fX4_in v2 (nI 0) (nI 3) t2) (fun r3 t4 =>
    if r3 = 0 then
      some ((-2000000000 : Int32), t4)
    else
      rv (trd t4 6 v1) (fun x5 =>
      if x5 = 0 then
        some ((-2000000000 : Int32), t4)
      else
        rv (trd t4 7 v1) (fun x6 =>
        rv (trd t4 6 v1) (fun x7 =>
        jn (fun (x8 : Int32) (t9 : tSt) =>
          jn (fun (x11 : Int32) (t12 : tSt) =>
            letv ((x8 &&& x11)) (fun y14 =>
            if y14 = 0 then
              some ((-2000000012 : Int32), t12)
            else
              if v2 = 0 then
                some (x6, t12)
              else
                if v2 = (nI 1) then
                  ob (fX4_at x6 (nI 6) t12) (fun r15 t16 =>
                  some (r15, t16)
                  )
                else
                  if v2 = (nI 2) then
                    ob (fX4_childrenOf x6 t12) (fun r17 t18 =>
                    ob (fX4_liveOnes t18) (fun r19 t20 =>
                    ob (fX4_bits (r17 &&& r19) t20) (fun r21 t22 =>
                    some (r21, t22)
                    )
                    )
                    )
                  else
                    ob (fX4_at x6 (nI 38) t12) (fun r23 t24 =>
                    some (r23, t24)
                    )
            )
            ) (fun (j13 : Int32 → tSt → Option (Int32 × tSt)) =>
            jn (fun  (t25 : tSt) =>
              j13 (nI 1) t25
              ) (fun (j26 : tSt → Option (Int32 × tSt)) =>
              if v2 = 0 then
                j26 t9
              else
                jn (fun  (t27 : tSt) =>
                  j13 (nI 0) t27
                  ) (fun (j28 : tSt → Option (Int32 × tSt)) =>
                  if x8 = 0 then
                    j28 t9
                  else
                    if v2 = (nI 3) then
                      ob (fX4_isLive x6 t9) (fun r29 t30 =>
                      if r29 = 0 then
                        j28 t30
                      else
                        ob (fX4_at x6 (nI 13) t30) (fun r31 t32 =>
                        if r31 = 0 then
                          j26 t32
                        else
                          j28 t32
                        )
                      )
                    else
                      jn (fun (x33 : Int32) (t34 : tSt) =>
                        ob (fX4_childrenOf x6 t34) (fun r36 t37 =>
                        jn (fun (x38 : Int32) (t39 : tSt) =>
                          if x33 = x38 then
                            j26 t39
                          else
                            j28 t39
                          ) (fun (j40 : Int32 → tSt → Option (Int32 × tSt)) =>
                          if r36 = 0 then
                            j40 (nI 1) t37
                          else
                            j40 (nI 0) t37
                          )
                        )
                        ) (fun (j35 : Int32 → tSt → Option (Int32 × tSt)) =>
                        if v2 = (nI 1) then
                          j35 (nI 1) t9
                        else
                          j35 (nI 0) t9
                        )
                  )
              )
            )
          ) (fun (j10 : Int32 → tSt → Option (Int32 × tSt)) =>
          if x7 = (nI 1) then
            j10 (nI 1) t4
          else
            j10 (nI 0) t4
          )
        )
        )
      )
    )
  )
set_option maxHeartbeats 4000000 in
theorem wX4_tells (l : Launch) (Z : tZ) (hj : tInj Z) (v1 : Int32) (v2 : Int32) (t : tSt)  : ∀ (r : Int32) (t' : tSt), fX4_tells v1 v2 t = some (r, t') → tCt l Z yX4_tells cX4_tells 5 (some .int) 4 [.ref (Z.2.2.2 18), .int v1, .int v2] t (some (.int r)) t' := by
  refine tmet (ρ := (fun x : Int32 => some (Value.int x))) (av := [.ref (Z.2.2.2 18), .int v1, .int v2]) hj (by decide +kernel) (Nat.le_of_ble_eq_true rfl) (lv_args_cat (List.forall_mem_cons.mpr ⟨rfl, List.forall_mem_cons.mpr ⟨rfl, List.forall_mem_cons.mpr ⟨rfl, fun _ h => absurd h List.not_mem_nil⟩⟩⟩)) ?_
  intro X hln hC hnL hrt
  subst hln
  have hG := hC.1
  show GF X (tM Z X 5 (fun x : Int32 => some (Value.int x))) _ t 0 [(0, .ref (Z.2.2.2 18)), (1, .int v1), (2, .int v2)] []
  unfold fX4_tells
  refine gf_aload_n hG dX4_tells_0 rfl rfl ?_
  refine gf_iload_n hG dX4_tells_1 rfl rfl ?_
  refine tf_callV (f := fX4_isHandle v1 t) (As := [.int v1]) (rest := []) (n := 1) (d' := 2) (st1 := fun r1 => [.int r1]) hC hnL (wX4_isHandle (gLn X) Z hC.2.2.1 v1 t) dX4_tells_2 (lw_V q1640 q1642 qs71 q78 q1643) (by decide +kernel) rfl (by decide) (by decide) (Nat.le_of_ble_eq_true rfl) (fun _ => rfl) (fun r1 t2 => ?_)
  refine gf_if_eq hG (tgt := 26) dX4_tells_5 (by decide) ?_ ?_
  · refine gf_ldc hG (-2000000000 : Int32) dX4_tells_26 q1419 ?_
    exact tf_ret hC hrt rfl rfl dX4_tells_28
  · refine gf_iload_n hG dX4_tells_8 rfl rfl ?_
    refine gf_iconst hG (nI 0) dX4_tells_9 (by decide) ?_
    refine gf_iconst hG (nI 3) dX4_tells_10 (by decide) ?_
    refine tf_callS (f := fX4_in v2 (nI 0) (nI 3) t2) (As := [.int v2, .int (nI 0), .int (nI 3)]) (rest := []) (n := 3) (d' := 1) (st1 := fun r3 => [.int r3]) hC hnL (wX4_in (gLn X) Z hC.2.2.1 v2 (nI 0) (nI 3) t2) dX4_tells_11 (lw_S q1366 q1367 q78 q1368) (by decide +kernel) rfl (by decide) (by decide) (Nat.le_of_ble_eq_true rfl) (fun _ => rfl) (fun r3 t4 => ?_)
    refine gf_if_eq hG (tgt := 26) dX4_tells_14 (by decide) ?_ ?_
    · refine gf_ldc hG (-2000000000 : Int32) dX4_tells_26 q1419 ?_
      exact tf_ret hC hrt rfl rfl dX4_tells_28
    · refine gf_aload_n hG dX4_tells_17 rfl rfl ?_
      refine tf_get hC 12 dX4_tells_18 (by decide) q1299 rfl ?_
      refine gf_iload_n hG dX4_tells_21 rfl rfl ?_
      refine tf_iald hC dX4_tells_22 (by decide) (fun x5 => ?_)
      refine gf_if_ne hG (tgt := 29) dX4_tells_23 (by decide) ?_ ?_
      · refine gf_ldc hG (-2000000000 : Int32) dX4_tells_26 q1419 ?_
        exact tf_ret hC hrt rfl rfl dX4_tells_28
      · refine gf_aload_n hG dX4_tells_29 rfl rfl ?_
        refine tf_get hC 13 dX4_tells_30 (by decide) q1300 rfl ?_
        refine gf_iload_n hG dX4_tells_33 rfl rfl ?_
        refine tf_iald hC dX4_tells_34 (by decide) (fun x6 => ?_)
        refine gf_istore_n hG dX4_tells_35 rfl (Nat.le_of_ble_eq_true rfl) (lv' := [(0, _), (1, _), (2, _), (3, _)]) rfl ?_
        refine gf_aload_n hG dX4_tells_36 rfl rfl ?_
        refine tf_get hC 12 dX4_tells_37 (by decide) q1299 rfl ?_
        refine gf_iload_n hG dX4_tells_40 rfl rfl ?_
        refine tf_iald hC dX4_tells_41 (by decide) (fun x7 => ?_)
        refine gf_iconst hG (nI 1) dX4_tells_42 (by decide) ?_
        refine gf_jn (fun j_ => ∀ (x8 : Int32) (t9 : tSt), GF X (tM Z X 5 (fun x : Int32 => some (Value.int x))) (j_ x8 t9) t9 51 [(0, .ref (Z.2.2.2 18)), (2, .int v2), (3, .int x6)] [.int x8]) (fun x8 t9 => ?_) (fun j10 hj10 => ?_)
        · refine gf_istore hG dX4_tells_51 (Nat.le_of_ble_eq_true rfl) (lv' := [(0, _), (2, _), (3, _), (4, _)]) rfl ?_
          refine gf_iload hG dX4_tells_53 rfl ?_
          refine gf_iload_n hG dX4_tells_55 rfl rfl ?_
          refine gf_jn (fun j_ => ∀ (x11 : Int32) (t12 : tSt), GF X (tM Z X 5 (fun x : Int32 => some (Value.int x))) (j_ x11 t12) t12 121 [(0, .ref (Z.2.2.2 18)), (2, .int v2), (3, .int x6)] [.int x11, .int x8]) (fun x11 t12 => ?_) (fun j13 hj13 => ?_)
          · refine gf_iand hG dX4_tells_121 ?_
            refine gf_letv (fun y14 hy14 => ?_)
            refine gf_istore hG dX4_tells_122 (Nat.le_of_ble_eq_true rfl) (lv' := [(0, _), (2, _), (3, _), (4, _)]) rfl ?_
            refine gf_iload hG dX4_tells_124 rfl ?_
            refine gf_if_ne hG (tgt := 132) dX4_tells_126 (by decide) ?_ ?_
            · refine gf_ldc hG (-2000000012 : Int32) dX4_tells_129 q1672 ?_
              exact tf_ret hC hrt rfl rfl dX4_tells_131
            · refine gf_iload_n hG dX4_tells_132 rfl rfl ?_
              refine gf_if_ne hG (tgt := 140) dX4_tells_133 (by decide) ?_ ?_
              · refine gf_iload_n hG dX4_tells_136 rfl rfl ?_
                refine gf_goto hG (tgt := 183) dX4_tells_137 (by decide) ?_
                exact tf_ret hC hrt rfl rfl dX4_tells_183
              · refine gf_iload_n hG dX4_tells_140 rfl rfl ?_
                refine gf_iconst hG (nI 1) dX4_tells_141 (by decide) ?_
                refine gf_icmp_ne hG (tgt := 155) dX4_tells_142 (by decide) ?_ ?_
                · refine gf_aload_n hG dX4_tells_145 rfl rfl ?_
                  refine gf_iload_n hG dX4_tells_146 rfl rfl ?_
                  refine gf_bipush hG (nI 6) dX4_tells_147 (by decide) ?_
                  refine tf_callV (f := fX4_at x6 (nI 6) t12) (As := [.int x6, .int (nI 6)]) (rest := []) (n := 2) (d' := 1) (st1 := fun r15 => [.int r15]) hC hnL (wX4_at (gLn X) Z hC.2.2.1 x6 (nI 6) t12) dX4_tells_149 (lw_V q1376 q1378 qs33 q78 q1379) (by decide +kernel) rfl (by decide) (by decide) (Nat.le_of_ble_eq_true rfl) (fun _ => rfl) (fun r15 t16 => ?_)
                  refine gf_goto hG (tgt := 183) dX4_tells_152 (by decide) ?_
                  exact tf_ret hC hrt rfl rfl dX4_tells_183
                · refine gf_iload_n hG dX4_tells_155 rfl rfl ?_
                  refine gf_iconst hG (nI 2) dX4_tells_156 (by decide) ?_
                  refine gf_icmp_ne hG (tgt := 176) dX4_tells_157 (by decide) ?_ ?_
                  · refine gf_aload_n hG dX4_tells_160 rfl rfl ?_
                    refine gf_iload_n hG dX4_tells_161 rfl rfl ?_
                    refine tf_callV (f := fX4_childrenOf x6 t12) (As := [.int x6]) (rest := []) (n := 1) (d' := 2) (st1 := fun r17 => [.int r17]) hC hnL (wX4_childrenOf (gLn X) Z hC.2.2.1 x6 t12) dX4_tells_162 (lw_V q1411 q1413 qs39 q78 q1414) (by decide +kernel) rfl (by decide) (by decide) (Nat.le_of_ble_eq_true rfl) (fun _ => rfl) (fun r17 t18 => ?_)
                    refine gf_aload_n hG dX4_tells_165 rfl rfl ?_
                    refine tf_callV (f := fX4_liveOnes t18) (As := []) (rest := [.int r17]) (n := 0) (d' := 3) (st1 := fun r19 => [.int r19, .int r17]) hC hnL (wX4_liveOnes (gLn X) Z hC.2.2.1 t18) dX4_tells_166 (lw_V q1448 q1450 qs41 q78 q1451) (by decide +kernel) rfl (by decide) (by decide) (Nat.le_of_ble_eq_true rfl) (fun _ => rfl) (fun r19 t20 => ?_)
                    refine gf_iand hG dX4_tells_169 ?_
                    refine tf_callS (f := fX4_bits (r17 &&& r19) t20) (As := [.int (r17 &&& r19)]) (rest := []) (n := 1) (d' := 1) (st1 := fun r21 => [.int r21]) hC hnL (wX4_bits (gLn X) Z hC.2.2.1 (r17 &&& r19) t20) dX4_tells_170 (lw_S q1452 q1453 q78 q1454) (by decide +kernel) rfl (by decide) (by decide) (Nat.le_of_ble_eq_true rfl) (fun _ => rfl) (fun r21 t22 => ?_)
                    refine gf_goto hG (tgt := 183) dX4_tells_173 (by decide) ?_
                    exact tf_ret hC hrt rfl rfl dX4_tells_183
                  · refine gf_aload_n hG dX4_tells_176 rfl rfl ?_
                    refine gf_iload_n hG dX4_tells_177 rfl rfl ?_
                    refine gf_bipush hG (nI 38) dX4_tells_178 (by decide) ?_
                    refine tf_callV (f := fX4_at x6 (nI 38) t12) (As := [.int x6, .int (nI 38)]) (rest := []) (n := 2) (d' := 1) (st1 := fun r23 => [.int r23]) hC hnL (wX4_at (gLn X) Z hC.2.2.1 x6 (nI 38) t12) dX4_tells_180 (lw_V q1376 q1378 qs33 q78 q1379) (by decide +kernel) rfl (by decide) (by decide) (Nat.le_of_ble_eq_true rfl) (fun _ => rfl) (fun r23 t24 => ?_)
                    exact tf_ret hC hrt rfl rfl dX4_tells_183
          · refine gf_jn (fun j_ => ∀  (t25 : tSt), GF X (tM Z X 5 (fun x : Int32 => some (Value.int x))) (j_ t25) t25 116 [(0, .ref (Z.2.2.2 18)), (2, .int v2), (3, .int x6)] [.int x8]) (fun t25 => ?_) (fun j26 hj26 => ?_)
            · refine gf_iconst hG (nI 1) dX4_tells_116 (by decide) ?_
              refine gf_goto hG (tgt := 121) dX4_tells_117 (by decide) ?_
              exact hj13 (nI 1) t25
            · refine gf_if_eq hG (tgt := 116) dX4_tells_56 (by decide) ?_ ?_
              · refine gf_sub [0, 1, 2] rfl ?_
                exact hj26 t9
              · refine gf_iload hG dX4_tells_59 rfl ?_
                refine gf_jn (fun j_ => ∀  (t27 : tSt), GF X (tM Z X 5 (fun x : Int32 => some (Value.int x))) (j_ t27) t27 120 [(0, .ref (Z.2.2.2 18)), (2, .int v2), (3, .int x6)] [.int x8]) (fun t27 => ?_) (fun j28 hj28 => ?_)
                · refine gf_iconst hG (nI 0) dX4_tells_120 (by decide) ?_
                  exact hj13 (nI 0) t27
                · refine gf_if_eq hG (tgt := 120) dX4_tells_61 (by decide) ?_ ?_
                  · refine gf_sub [0, 1, 2] rfl ?_
                    exact hj28 t9
                  · refine gf_iload_n hG dX4_tells_64 rfl rfl ?_
                    refine gf_iconst hG (nI 3) dX4_tells_65 (by decide) ?_
                    refine gf_icmp_ne hG (tgt := 90) dX4_tells_66 (by decide) ?_ ?_
                    · refine gf_aload_n hG dX4_tells_69 rfl rfl ?_
                      refine gf_iload_n hG dX4_tells_70 rfl rfl ?_
                      refine tf_callV (f := fX4_isLive x6 t9) (As := [.int x6]) (rest := [.int x8]) (n := 1) (d' := 2) (st1 := fun r29 => [.int r29, .int x8]) hC hnL (wX4_isLive (gLn X) Z hC.2.2.1 x6 t9) dX4_tells_71 (lw_V q1372 q1374 qs32 q78 q1375) (by decide +kernel) rfl (by decide) (by decide) (Nat.le_of_ble_eq_true rfl) (fun _ => rfl) (fun r29 t30 => ?_)
                      refine gf_if_eq hG (tgt := 120) dX4_tells_74 (by decide) ?_ ?_
                      · refine gf_sub [0, 1, 2] rfl ?_
                        exact hj28 t30
                      · refine gf_aload_n hG dX4_tells_77 rfl rfl ?_
                        refine gf_iload_n hG dX4_tells_78 rfl rfl ?_
                        refine gf_bipush hG (nI 13) dX4_tells_79 (by decide) ?_
                        refine tf_callV (f := fX4_at x6 (nI 13) t30) (As := [.int x6, .int (nI 13)]) (rest := [.int x8]) (n := 2) (d' := 1) (st1 := fun r31 => [.int r31, .int x8]) hC hnL (wX4_at (gLn X) Z hC.2.2.1 x6 (nI 13) t30) dX4_tells_81 (lw_V q1376 q1378 qs33 q78 q1379) (by decide +kernel) rfl (by decide) (by decide) (Nat.le_of_ble_eq_true rfl) (fun _ => rfl) (fun r31 t32 => ?_)
                        refine gf_if_ne hG (tgt := 120) dX4_tells_84 (by decide) ?_ ?_
                        · refine gf_goto hG (tgt := 116) dX4_tells_87 (by decide) ?_
                          refine gf_sub [0, 1, 2] rfl ?_
                          exact hj26 t32
                        · refine gf_sub [0, 1, 2] rfl ?_
                          exact hj28 t32
                    · refine gf_iload_n hG dX4_tells_90 rfl rfl ?_
                      refine gf_iconst hG (nI 1) dX4_tells_91 (by decide) ?_
                      refine gf_jn (fun j_ => ∀ (x33 : Int32) (t34 : tSt), GF X (tM Z X 5 (fun x : Int32 => some (Value.int x))) (j_ x33 t34) t34 100 [(0, .ref (Z.2.2.2 18)), (2, .int v2), (3, .int x6)] [.int x33, .int x8]) (fun x33 t34 => ?_) (fun j35 hj35 => ?_)
                      · refine gf_aload_n hG dX4_tells_100 rfl rfl ?_
                        refine gf_iload_n hG dX4_tells_101 rfl rfl ?_
                        refine tf_callV (f := fX4_childrenOf x6 t34) (As := [.int x6]) (rest := [.int x33, .int x8]) (n := 1) (d' := 2) (st1 := fun r36 => [.int r36, .int x33, .int x8]) hC hnL (wX4_childrenOf (gLn X) Z hC.2.2.1 x6 t34) dX4_tells_102 (lw_V q1411 q1413 qs39 q78 q1414) (by decide +kernel) rfl (by decide) (by decide) (Nat.le_of_ble_eq_true rfl) (fun _ => rfl) (fun r36 t37 => ?_)
                        refine gf_jn (fun j_ => ∀ (x38 : Int32) (t39 : tSt), GF X (tM Z X 5 (fun x : Int32 => some (Value.int x))) (j_ x38 t39) t39 113 [(0, .ref (Z.2.2.2 18)), (2, .int v2), (3, .int x6)] [.int x38, .int x33, .int x8]) (fun x38 t39 => ?_) (fun j40 hj40 => ?_)
                        · refine gf_icmp_ne hG (tgt := 120) dX4_tells_113 (by decide) ?_ ?_
                          · exact hj26 t39
                          · exact hj28 t39
                        · refine gf_if_ne hG (tgt := 112) dX4_tells_105 (by decide) ?_ ?_
                          · refine gf_iconst hG (nI 1) dX4_tells_108 (by decide) ?_
                            refine gf_goto hG (tgt := 113) dX4_tells_109 (by decide) ?_
                            exact hj40 (nI 1) t37
                          · refine gf_iconst hG (nI 0) dX4_tells_112 (by decide) ?_
                            exact hj40 (nI 0) t37
                      · refine gf_icmp_ne hG (tgt := 99) dX4_tells_92 (by decide) ?_ ?_
                        · refine gf_iconst hG (nI 1) dX4_tells_95 (by decide) ?_
                          refine gf_goto hG (tgt := 100) dX4_tells_96 (by decide) ?_
                          refine gf_sub [0, 1, 2] rfl ?_
                          exact hj35 (nI 1) t9
                        · refine gf_iconst hG (nI 0) dX4_tells_99 (by decide) ?_
                          refine gf_sub [0, 1, 2] rfl ?_
                          exact hj35 (nI 0) t9
        · refine gf_icmp_ne hG (tgt := 50) dX4_tells_43 (by decide) ?_ ?_
          · refine gf_iconst hG (nI 1) dX4_tells_46 (by decide) ?_
            refine gf_goto hG (tgt := 51) dX4_tells_47 (by decide) ?_
            refine gf_sub [0, 2, 3] rfl ?_
            exact hj10 (nI 1) t4
          · refine gf_iconst hG (nI 0) dX4_tells_50 (by decide) ?_
            refine gf_sub [0, 2, 3] rfl ?_
            exact hj10 (nI 0) t4
def fX4_count_L75  (kx : Int32 → tSt → Option (Int32 × tSt)) : Nat → Int32 → Int32 → tSt → Option (Int32 × tSt)
  | 0, _, _, _ => none
  | k + 1, v2, v3, t =>
    rv (trd t 0 (nI 924)) (fun x6 =>
    if v3 < x6 then
      ob (fX4_at v3 (nI 13) t) (fun r7 t8 =>
      letv ((v2 + r7)) (fun y9 =>
      letv (v3 + (nI 1)) (fun y10 =>
      fX4_count_L75 kx k y9 y10 t8
      )
      )
      )
    else
      kx v2 t
    )
set_option maxHeartbeats 4000000 in
theorem gfX4_count_L75 {X : gCx} {Z : tZ} (hC : tOk X Z RX4 cX4_count 4) (hnL : gLoc X = 4) (hrt : gRet X = (some .int))   (kx : Int32 → tSt → Option (Int32 × tSt)) (hkx : ∀ (v2 : Int32) (t : tSt), GF X (tM Z X 4 (fun x : Int32 => some (Value.int x))) (kx v2 t) t 103 [(2, .int v2)] []) : ∀ (k : Nat) (v2 : Int32) (v3 : Int32) (t : tSt), GF X (tM Z X 4 (fun x : Int32 => some (Value.int x))) (fX4_count_L75 kx k v2 v3 t) t 75 [(0, .ref (Z.2.2.2 18)), (2, .int v2), (3, .int v3)] [] := by
  have hG := hC.1
  intro k
  induction k with
  | zero => intro v2 v3 t; exact gf_none
  | succ k ih =>
    intro v2 v3 t
    rw [fX4_count_L75]
    refine gf_iload_n hG dX4_count_75 rfl rfl ?_
    refine gf_aload_n hG dX4_count_76 rfl rfl ?_
    refine tf_get hC 0 dX4_count_77 (by decide) q1287 rfl ?_
    refine gf_sipush hG (nI 924) dX4_count_80 (by decide) ?_
    refine tf_iald hC dX4_count_83 (by decide) (fun x6 => ?_)
    refine gf_icmp_ge hG (tgt := 103) dX4_count_84 (by decide) ?_ ?_
    · refine gf_iload_n hG dX4_count_87 rfl rfl ?_
      refine gf_aload_n hG dX4_count_88 rfl rfl ?_
      refine gf_iload_n hG dX4_count_89 rfl rfl ?_
      refine gf_bipush hG (nI 13) dX4_count_90 (by decide) ?_
      refine tf_callV (f := fX4_at v3 (nI 13) t) (As := [.int v3, .int (nI 13)]) (rest := [.int v2]) (n := 2) (d' := 1) (st1 := fun r7 => [.int r7, .int v2]) hC hnL (wX4_at (gLn X) Z hC.2.2.1 v3 (nI 13) t) dX4_count_92 (lw_V q1376 q1378 qs33 q78 q1379) (by decide +kernel) rfl (by decide) (by decide) (Nat.le_of_ble_eq_true rfl) (fun _ => rfl) (fun r7 t8 => ?_)
      refine gf_iadd hG dX4_count_95 ?_
      refine gf_letv (fun y9 hy9 => ?_)
      refine gf_istore_n hG dX4_count_96 rfl (Nat.le_of_ble_eq_true rfl) (lv' := [(0, _), (2, _), (3, _)]) rfl ?_
      refine gf_letiinc hG (c := (nI 1)) (lv' := fun y10 => [(0, .ref (Z.2.2.2 18)), (2, .int y9), (3, .int y10)]) dX4_count_97 rfl (by decide) (Nat.le_of_ble_eq_true rfl) (fun _ => rfl) (fun y10 => ?_)
      refine gf_goto hG (tgt := 75) dX4_count_100 (by decide) ?_
      exact ih y9 y10 t8
    · refine gf_sub [1] rfl ?_
      exact hkx v2 t
def fX4_count (v1 : Int32) (t : tSt) : Option (Int32 × tSt) :=
  gsw v1 [
    ((nI 0), 
      rv (trd t 0 (nI 924)) (fun x1 =>
      some (x1, t)
      )
    ),
    ((nI 1), 
      ob (fX4_liveOnes t) (fun r2 t3 =>
      ob (fX4_bits r2 t3) (fun r4 t5 =>
      some (r4, t5)
      )
      )
    ),
    ((nI 2), 
      fX4_count_L75 (fun (v2_11 : Int32) (t12 : tSt) =>
        some (v2_11, t12)
        ) FU (nI 0) (nI 0) t
    ),
    ((nI 3), 
      rv (trd t 0 (nI 931)) (fun x13 =>
      some (x13, t)
      )
    ),
    ((nI 4), 
      rv (trd t 0 (nI 927)) (fun x14 =>
      some (x14, t)
      )
    ),
    ((nI 5), 
      rv (trd t 0 (nI 926)) (fun x15 =>
      some (x15, t)
      )
    ),
    ((nI 6), 
      rv (trd t 0 (nI 925)) (fun x16 =>
      some (x16, t)
      )
    ),
    ((nI 7), 
      rv (trd t 0 (nI 993)) (fun x17 =>
      some (x17, t)
      )
    ),
    ((nI 8), 
      rv (trd t 0 (nI 962)) (fun x18 =>
      some (x18, t)
      )
    ),
    ((nI 9), 
      some ((t 18 11), t)
    )
  ] (
    some ((-1 : Int32), t)
  )
set_option maxHeartbeats 4000000 in
theorem wX4_count (l : Launch) (Z : tZ) (hj : tInj Z) (v1 : Int32) (t : tSt)  : ∀ (r : Int32) (t' : tSt), fX4_count v1 t = some (r, t') → tCt l Z yX4_count cX4_count 4 (some .int) 4 [.ref (Z.2.2.2 18), .int v1] t (some (.int r)) t' := by
  refine tmet (ρ := (fun x : Int32 => some (Value.int x))) (av := [.ref (Z.2.2.2 18), .int v1]) hj (by decide +kernel) (Nat.le_of_ble_eq_true rfl) (lv_args_cat (List.forall_mem_cons.mpr ⟨rfl, List.forall_mem_cons.mpr ⟨rfl, fun _ h => absurd h List.not_mem_nil⟩⟩)) ?_
  intro X hln hC hnL hrt
  subst hln
  have hG := hC.1
  show GF X (tM Z X 4 (fun x : Int32 => some (Value.int x))) _ t 0 [(0, .ref (Z.2.2.2 18)), (1, .int v1)] []
  unfold fX4_count
  refine gf_iconst hG (nI 0) dX4_count_0 (by decide) ?_
  refine gf_istore_n hG dX4_count_1 rfl (Nat.le_of_ble_eq_true rfl) (lv' := [(0, _), (1, _), (2, _)]) rfl ?_
  refine gf_iload_n hG dX4_count_2 rfl rfl ?_
  refine gf_tsw hG (dt := 164) dX4_count_3 (by decide) (by decide) ⟨⟨by decide, 56, by decide, ?_⟩, ⟨by decide, 65, by decide, ?_⟩, ⟨by decide, 73, by decide, ?_⟩, ⟨by decide, 105, by decide, ?_⟩, ⟨by decide, 114, by decide, ?_⟩, ⟨by decide, 123, by decide, ?_⟩, ⟨by decide, 132, by decide, ?_⟩, ⟨by decide, 141, by decide, ?_⟩, ⟨by decide, 150, by decide, ?_⟩, ⟨by decide, 159, by decide, ?_⟩, trivial⟩ ?_
  · refine gf_aload_n hG dX4_count_56 rfl rfl ?_
    refine tf_get hC 0 dX4_count_57 (by decide) q1287 rfl ?_
    refine gf_sipush hG (nI 924) dX4_count_60 (by decide) ?_
    refine tf_iald hC dX4_count_63 (by decide) (fun x1 => ?_)
    exact tf_ret hC hrt rfl rfl dX4_count_64
  · refine gf_aload_n hG dX4_count_65 rfl rfl ?_
    refine tf_callV (f := fX4_liveOnes t) (As := []) (rest := []) (n := 0) (d' := 3) (st1 := fun r2 => [.int r2]) hC hnL (wX4_liveOnes (gLn X) Z hC.2.2.1 t) dX4_count_66 (lw_V q1448 q1450 qs41 q78 q1451) (by decide +kernel) rfl (by decide) (by decide) (Nat.le_of_ble_eq_true rfl) (fun _ => rfl) (fun r2 t3 => ?_)
    refine tf_callS (f := fX4_bits r2 t3) (As := [.int r2]) (rest := []) (n := 1) (d' := 1) (st1 := fun r4 => [.int r4]) hC hnL (wX4_bits (gLn X) Z hC.2.2.1 r2 t3) dX4_count_69 (lw_S q1452 q1453 q78 q1454) (by decide +kernel) rfl (by decide) (by decide) (Nat.le_of_ble_eq_true rfl) (fun _ => rfl) (fun r4 t5 => ?_)
    exact tf_ret hC hrt rfl rfl dX4_count_72
  · refine gf_iconst hG (nI 0) dX4_count_73 (by decide) ?_
    refine gf_istore_n hG dX4_count_74 rfl (Nat.le_of_ble_eq_true rfl) (lv' := [(0, _), (1, _), (2, _), (3, _)]) rfl ?_
    refine gf_sub [0, 2, 3] rfl ?_
    refine gfX4_count_L75 hC hnL hrt  _ (fun v2_11 t12 => ?_) FU (nI 0) (nI 0) t
    refine gf_iload_n hG dX4_count_103 rfl rfl ?_
    exact tf_ret hC hrt rfl rfl dX4_count_104
  · refine gf_aload_n hG dX4_count_105 rfl rfl ?_
    refine tf_get hC 0 dX4_count_106 (by decide) q1287 rfl ?_
    refine gf_sipush hG (nI 931) dX4_count_109 (by decide) ?_
    refine tf_iald hC dX4_count_112 (by decide) (fun x13 => ?_)
    exact tf_ret hC hrt rfl rfl dX4_count_113
  · refine gf_aload_n hG dX4_count_114 rfl rfl ?_
    refine tf_get hC 0 dX4_count_115 (by decide) q1287 rfl ?_
    refine gf_sipush hG (nI 927) dX4_count_118 (by decide) ?_
    refine tf_iald hC dX4_count_121 (by decide) (fun x14 => ?_)
    exact tf_ret hC hrt rfl rfl dX4_count_122
  · refine gf_aload_n hG dX4_count_123 rfl rfl ?_
    refine tf_get hC 0 dX4_count_124 (by decide) q1287 rfl ?_
    refine gf_sipush hG (nI 926) dX4_count_127 (by decide) ?_
    refine tf_iald hC dX4_count_130 (by decide) (fun x15 => ?_)
    exact tf_ret hC hrt rfl rfl dX4_count_131
  · refine gf_aload_n hG dX4_count_132 rfl rfl ?_
    refine tf_get hC 0 dX4_count_133 (by decide) q1287 rfl ?_
    refine gf_sipush hG (nI 925) dX4_count_136 (by decide) ?_
    refine tf_iald hC dX4_count_139 (by decide) (fun x16 => ?_)
    exact tf_ret hC hrt rfl rfl dX4_count_140
  · refine gf_aload_n hG dX4_count_141 rfl rfl ?_
    refine tf_get hC 0 dX4_count_142 (by decide) q1287 rfl ?_
    refine gf_sipush hG (nI 993) dX4_count_145 (by decide) ?_
    refine tf_iald hC dX4_count_148 (by decide) (fun x17 => ?_)
    exact tf_ret hC hrt rfl rfl dX4_count_149
  · refine gf_aload_n hG dX4_count_150 rfl rfl ?_
    refine tf_get hC 0 dX4_count_151 (by decide) q1287 rfl ?_
    refine gf_sipush hG (nI 962) dX4_count_154 (by decide) ?_
    refine tf_iald hC dX4_count_157 (by decide) (fun x18 => ?_)
    exact tf_ret hC hrt rfl rfl dX4_count_158
  · refine gf_aload_n hG dX4_count_159 rfl rfl ?_
    refine tf_get hC 11 dX4_count_160 (by decide) q1298 rfl ?_
    exact tf_ret hC hrt rfl rfl dX4_count_163
  · refine gf_iconst hG (-1 : Int32) dX4_count_164 (by decide) ?_
    exact tf_ret hC hrt rfl rfl dX4_count_165
