/-! walks, by program -/
def fX4_brings (v1 : Int32) (v2 : Int32) (t : tSt) : Option (Int32 × tSt) :=
  ob (fX4_isActor v1 t) (fun r1 t2 =>
  if r1 = 0 then
    some ((-2000000000 : Int32), t2)
  else
    ob (fX4_in v2 (nI 0) (nI 2) t2) (fun r3 t4 =>
    if r3 = 0 then
      some ((-2000000000 : Int32), t4)
    else
      ob (fX4_isLive v1 t4) (fun r5 t6 =>
      if r5 = 0 then
        some ((-2000000000 : Int32), t6)
      else
        ob (fX4_take (0) (1) t6) (fun r7 t8 =>
        ob (fX4_liveOnes t8) (fun r9 t10 =>
        letv (tup t10 18 6 (nI 0)) (fun t11 =>
        ob (fX4_fails v1 (nI 5) t11) (fun r12 t13 =>
        jn (fun (x14 : Int32) (t15 : tSt) =>
          ob (fX4_take (1) (0) t15) (fun r17 t18 =>
          some (x14, t18)
          )
          ) (fun (j16 : Int32 → tSt → Option (Int32 × tSt)) =>
          if v2 = 0 then
            j16 (t13 18 6) t13
          else
            if v2 = (nI 1) then
              ob (fX4_liveOnes t13) (fun r19 t20 =>
              j16 (r9 &&& (r19 ^^^ (-1 : Int32))) t20
              )
            else
              rv (trd t13 0 (nI 994)) (fun x21 =>
              j16 x21 t13
              )
          )
        )
        )
        )
        )
      )
    )
  )
set_option maxHeartbeats 4000000 in
theorem wX4_brings (l : Launch) (Z : tZ) (hj : tInj Z) (v1 : Int32) (v2 : Int32) (t : tSt)  : ∀ (r : Int32) (t' : tSt), fX4_brings v1 v2 t = some (r, t') → tCt l Z yX4_brings cX4_brings 5 (some .int) 42 [.ref (Z.2.2.2 18), .int v1, .int v2] t (some (.int r)) t' := by
  refine tmet (ρ := (fun x : Int32 => some (Value.int x))) (av := [.ref (Z.2.2.2 18), .int v1, .int v2]) hj (by decide +kernel) (Nat.le_of_ble_eq_true rfl) (lv_args_cat (List.forall_mem_cons.mpr ⟨rfl, List.forall_mem_cons.mpr ⟨rfl, List.forall_mem_cons.mpr ⟨rfl, fun _ h => absurd h List.not_mem_nil⟩⟩⟩)) ?_
  intro X hln hC hnL hrt
  subst hln
  have hG := hC.1
  show GF X (tM Z X 5 (fun x : Int32 => some (Value.int x))) _ t 0 [(0, .ref (Z.2.2.2 18)), (1, .int v1), (2, .int v2)] []
  unfold fX4_brings
  refine gf_aload_n hG dX4_brings_0 rfl rfl ?_
  refine gf_iload_n hG dX4_brings_1 rfl rfl ?_
  refine tf_callV (f := fX4_isActor v1 t) (As := [.int v1]) (rest := []) (n := 1) (d' := 2) (st1 := fun r1 => [.int r1]) hC hnL (wX4_isActor (gLn X) Z hC.2.2.1 v1 t) dX4_brings_2 (lw_V q1362 q1364 qs31 q78 q1365) (by decide +kernel) rfl (by decide) (by decide) (Nat.le_of_ble_eq_true rfl) (fun _ => rfl) (fun r1 t2 => ?_)
  refine gf_if_eq hG (tgt := 25) dX4_brings_5 (by decide) ?_ ?_
  · refine gf_ldc hG (-2000000000 : Int32) dX4_brings_25 q1419 ?_
    exact tf_ret hC hrt rfl rfl dX4_brings_27
  · refine gf_iload_n hG dX4_brings_8 rfl rfl ?_
    refine gf_iconst hG (nI 0) dX4_brings_9 (by decide) ?_
    refine gf_iconst hG (nI 2) dX4_brings_10 (by decide) ?_
    refine tf_callS (f := fX4_in v2 (nI 0) (nI 2) t2) (As := [.int v2, .int (nI 0), .int (nI 2)]) (rest := []) (n := 3) (d' := 1) (st1 := fun r3 => [.int r3]) hC hnL (wX4_in (gLn X) Z hC.2.2.1 v2 (nI 0) (nI 2) t2) dX4_brings_11 (lw_S q1366 q1367 q78 q1368) (by decide +kernel) rfl (by decide) (by decide) (Nat.le_of_ble_eq_true rfl) (fun _ => rfl) (fun r3 t4 => ?_)
    refine gf_if_eq hG (tgt := 25) dX4_brings_14 (by decide) ?_ ?_
    · refine gf_ldc hG (-2000000000 : Int32) dX4_brings_25 q1419 ?_
      exact tf_ret hC hrt rfl rfl dX4_brings_27
    · refine gf_aload_n hG dX4_brings_17 rfl rfl ?_
      refine gf_iload_n hG dX4_brings_18 rfl rfl ?_
      refine tf_callV (f := fX4_isLive v1 t4) (As := [.int v1]) (rest := []) (n := 1) (d' := 2) (st1 := fun r5 => [.int r5]) hC hnL (wX4_isLive (gLn X) Z hC.2.2.1 v1 t4) dX4_brings_19 (lw_V q1372 q1374 qs32 q78 q1375) (by decide +kernel) rfl (by decide) (by decide) (Nat.le_of_ble_eq_true rfl) (fun _ => rfl) (fun r5 t6 => ?_)
      refine gf_if_ne hG (tgt := 28) dX4_brings_22 (by decide) ?_ ?_
      · refine gf_ldc hG (-2000000000 : Int32) dX4_brings_25 q1419 ?_
        exact tf_ret hC hrt rfl rfl dX4_brings_27
      · refine gf_aload_n hG dX4_brings_28 rfl rfl ?_
        refine tf_get hC 0 dX4_brings_29 (by decide) q1287 rfl ?_
        refine gf_aload_n hG dX4_brings_32 rfl rfl ?_
        refine tf_get hC 1 dX4_brings_33 (by decide) q1288 rfl ?_
        refine tf_callS (f := fX4_take (0) (1) t6) (As := [.ref (Z.2.2.2 0), .ref (Z.2.2.2 1)]) (rest := []) (n := 2) (d' := 1) (st1 := fun _ => []) hC hnL (wX4_take (gLn X) Z hC.2.2.1 (0) (1) t6 (by decide) (by decide)) dX4_brings_36 (lw_S q1566 q1567 q78 q1568) (by decide +kernel) rfl (by decide) (by decide) (Nat.le_of_ble_eq_true rfl) (fun _ => rfl) (fun r7 t8 => ?_)
        refine gf_aload_n hG dX4_brings_39 rfl rfl ?_
        refine tf_callV (f := fX4_liveOnes t8) (As := []) (rest := []) (n := 0) (d' := 3) (st1 := fun r9 => [.int r9]) hC hnL (wX4_liveOnes (gLn X) Z hC.2.2.1 t8) dX4_brings_40 (lw_V q1448 q1450 qs41 q78 q1451) (by decide +kernel) rfl (by decide) (by decide) (Nat.le_of_ble_eq_true rfl) (fun _ => rfl) (fun r9 t10 => ?_)
        refine gf_istore_n hG dX4_brings_43 rfl (Nat.le_of_ble_eq_true rfl) (lv' := [(0, _), (1, _), (2, _), (3, _)]) rfl ?_
        refine gf_aload_n hG dX4_brings_44 rfl rfl ?_
        refine gf_iconst hG (nI 0) dX4_brings_45 (by decide) ?_
        refine tf_put hC 6 dX4_brings_46 (by decide) q1293 rfl (by first | rfl | decide) (by first | rfl | decide) (fun _ => rfl) ?_
        refine gf_letS (fun t11 => ?_)
        refine gf_aload_n hG dX4_brings_49 rfl rfl ?_
        refine gf_iload_n hG dX4_brings_50 rfl rfl ?_
        refine gf_iconst hG (nI 5) dX4_brings_51 (by decide) ?_
        refine tf_callV (f := fX4_fails v1 (nI 5) t11) (As := [.int v1, .int (nI 5)]) (rest := []) (n := 2) (d' := 41) (st1 := fun _ => []) hC hnL (wX4_fails (gLn X) Z hC.2.2.1 v1 (nI 5) t11) dX4_brings_52 (lw_V q1510 q1512 qs54 q78 q1513) (by decide +kernel) rfl (by decide) (by decide) (Nat.le_of_ble_eq_true rfl) (fun _ => rfl) (fun r12 t13 => ?_)
        refine gf_iload_n hG dX4_brings_55 rfl rfl ?_
        refine gf_jn (fun j_ => ∀ (x14 : Int32) (t15 : tSt), GF X (tM Z X 5 (fun x : Int32 => some (Value.int x))) (j_ x14 t15) t15 90 [(0, .ref (Z.2.2.2 18))] [.int x14]) (fun x14 t15 => ?_) (fun j16 hj16 => ?_)
        · refine gf_istore hG dX4_brings_90 (Nat.le_of_ble_eq_true rfl) (lv' := [(0, _), (4, _)]) rfl ?_
          refine gf_aload_n hG dX4_brings_92 rfl rfl ?_
          refine tf_get hC 1 dX4_brings_93 (by decide) q1288 rfl ?_
          refine gf_aload_n hG dX4_brings_96 rfl rfl ?_
          refine tf_get hC 0 dX4_brings_97 (by decide) q1287 rfl ?_
          refine tf_callS (f := fX4_take (1) (0) t15) (As := [.ref (Z.2.2.2 1), .ref (Z.2.2.2 0)]) (rest := []) (n := 2) (d' := 1) (st1 := fun _ => []) hC hnL (wX4_take (gLn X) Z hC.2.2.1 (1) (0) t15 (by decide) (by decide)) dX4_brings_100 (lw_S q1566 q1567 q78 q1568) (by decide +kernel) rfl (by decide) (by decide) (Nat.le_of_ble_eq_true rfl) (fun _ => rfl) (fun r17 t18 => ?_)
          refine gf_iload hG dX4_brings_103 rfl ?_
          exact tf_ret hC hrt rfl rfl dX4_brings_105
        · refine gf_if_ne hG (tgt := 66) dX4_brings_56 (by decide) ?_ ?_
          · refine gf_aload_n hG dX4_brings_59 rfl rfl ?_
            refine tf_get hC 6 dX4_brings_60 (by decide) q1293 rfl ?_
            refine gf_goto hG (tgt := 90) dX4_brings_63 (by decide) ?_
            refine gf_sub [0] rfl ?_
            exact hj16 (t13 18 6) t13
          · refine gf_iload_n hG dX4_brings_66 rfl rfl ?_
            refine gf_iconst hG (nI 1) dX4_brings_67 (by decide) ?_
            refine gf_icmp_ne hG (tgt := 82) dX4_brings_68 (by decide) ?_ ?_
            · refine gf_iload_n hG dX4_brings_71 rfl rfl ?_
              refine gf_aload_n hG dX4_brings_72 rfl rfl ?_
              refine tf_callV (f := fX4_liveOnes t13) (As := []) (rest := [.int r9]) (n := 0) (d' := 3) (st1 := fun r19 => [.int r19, .int r9]) hC hnL (wX4_liveOnes (gLn X) Z hC.2.2.1 t13) dX4_brings_73 (lw_V q1448 q1450 qs41 q78 q1451) (by decide +kernel) rfl (by decide) (by decide) (Nat.le_of_ble_eq_true rfl) (fun _ => rfl) (fun r19 t20 => ?_)
              refine gf_iconst hG (-1 : Int32) dX4_brings_76 (by decide) ?_
              refine gf_ixor hG dX4_brings_77 ?_
              refine gf_iand hG dX4_brings_78 ?_
              refine gf_goto hG (tgt := 90) dX4_brings_79 (by decide) ?_
              refine gf_sub [0] rfl ?_
              exact hj16 (r9 &&& (r19 ^^^ (-1 : Int32))) t20
            · refine gf_aload_n hG dX4_brings_82 rfl rfl ?_
              refine tf_get hC 0 dX4_brings_83 (by decide) q1287 rfl ?_
              refine gf_sipush hG (nI 994) dX4_brings_86 (by decide) ?_
              refine tf_iald hC dX4_brings_89 (by decide) (fun x21 => ?_)
              refine gf_sub [0] rfl ?_
              exact hj16 x21 t13
def fX4_isNext (v1 : Int32) (v2 : Int32) (t : tSt) : Option (Int32 × tSt) :=
  ob (fX4_at v1 (nI 0) t) (fun r1 t2 =>
  jn (fun  (t3 : tSt) =>
    some ((nI 1), t3)
    ) (fun (j4 : tSt → Option (Int32 × tSt)) =>
    if r1 = v2 then
      j4 t2
    else
      ob (fX4_at v2 (nI 0) t2) (fun r5 t6 =>
      if r5 = v1 then
        j4 t6
      else
        some ((nI 0), t6)
      )
    )
  )
set_option maxHeartbeats 4000000 in
theorem wX4_isNext (l : Launch) (Z : tZ) (hj : tInj Z) (v1 : Int32) (v2 : Int32) (t : tSt)  : ∀ (r : Int32) (t' : tSt), fX4_isNext v1 v2 t = some (r, t') → tCt l Z yX4_isNext cX4_isNext 3 (some .boolean) 2 [.ref (Z.2.2.2 18), .int v1, .int v2] t (some (.int r)) t' := by
  refine tmet (ρ := (fun x : Int32 => some (Value.int x))) (av := [.ref (Z.2.2.2 18), .int v1, .int v2]) hj (by decide +kernel) (Nat.le_of_ble_eq_true rfl) (lv_args_cat (List.forall_mem_cons.mpr ⟨rfl, List.forall_mem_cons.mpr ⟨rfl, List.forall_mem_cons.mpr ⟨rfl, fun _ h => absurd h List.not_mem_nil⟩⟩⟩)) ?_
  intro X hln hC hnL hrt
  subst hln
  have hG := hC.1
  show GF X (tM Z X 3 (fun x : Int32 => some (Value.int x))) _ t 0 [(0, .ref (Z.2.2.2 18)), (1, .int v1), (2, .int v2)] []
  unfold fX4_isNext
  refine gf_aload_n hG dX4_isNext_0 rfl rfl ?_
  refine gf_iload_n hG dX4_isNext_1 rfl rfl ?_
  refine gf_iconst hG (nI 0) dX4_isNext_2 (by decide) ?_
  refine tf_callV (f := fX4_at v1 (nI 0) t) (As := [.int v1, .int (nI 0)]) (rest := []) (n := 2) (d' := 1) (st1 := fun r1 => [.int r1]) hC hnL (wX4_at (gLn X) Z hC.2.2.1 v1 (nI 0) t) dX4_isNext_3 (lw_V q1376 q1378 qs33 q78 q1379) (by decide +kernel) rfl (by decide) (by decide) (Nat.le_of_ble_eq_true rfl) (fun _ => rfl) (fun r1 t2 => ?_)
  refine gf_iload_n hG dX4_isNext_6 rfl rfl ?_
  refine gf_jn (fun j_ => ∀  (t3 : tSt), GF X (tM Z X 3 (fun x : Int32 => some (Value.int x))) (j_ t3) t3 20 [] []) (fun t3 => ?_) (fun j4 hj4 => ?_)
  · refine gf_iconst hG (nI 1) dX4_isNext_20 (by decide) ?_
    refine gf_goto hG (tgt := 25) dX4_isNext_21 (by decide) ?_
    exact tf_ret hC hrt (by decide) rfl dX4_isNext_25
  · refine gf_icmp_eq hG (tgt := 20) dX4_isNext_7 (by decide) ?_ ?_
    · refine gf_sub [] rfl ?_
      exact hj4 t2
    · refine gf_aload_n hG dX4_isNext_10 rfl rfl ?_
      refine gf_iload_n hG dX4_isNext_11 rfl rfl ?_
      refine gf_iconst hG (nI 0) dX4_isNext_12 (by decide) ?_
      refine tf_callV (f := fX4_at v2 (nI 0) t2) (As := [.int v2, .int (nI 0)]) (rest := []) (n := 2) (d' := 1) (st1 := fun r5 => [.int r5]) hC hnL (wX4_at (gLn X) Z hC.2.2.1 v2 (nI 0) t2) dX4_isNext_13 (lw_V q1376 q1378 qs33 q78 q1379) (by decide +kernel) rfl (by decide) (by decide) (Nat.le_of_ble_eq_true rfl) (fun _ => rfl) (fun r5 t6 => ?_)
      refine gf_iload_n hG dX4_isNext_16 rfl rfl ?_
      refine gf_icmp_ne hG (tgt := 24) dX4_isNext_17 (by decide) ?_ ?_
      · refine gf_sub [] rfl ?_
        exact hj4 t6
      · refine gf_iconst hG (nI 0) dX4_isNext_24 (by decide) ?_
        exact tf_ret hC hrt (by decide) rfl dX4_isNext_25
def fX4_reach_L39 (v1 : Int32) (v2 : Int32) (kx : tSt → Option (Int32 × tSt)) : Nat → Int32 → tSt → Option (Int32 × tSt)
  | 0, _, _ => none
  | k + 1, v3, t =>
    if v3 < (nI 12) then
      rv (twr t 10 v3 (-2 : Int32)) (fun t9 =>
      letv (v3 + (nI 1)) (fun y10 =>
      fX4_reach_L39 v1 v2 kx k y10 t9
      )
      )
    else
      kx t
set_option maxHeartbeats 4000000 in
theorem gfX4_reach_L39 {X : gCx} {Z : tZ} (hC : tOk X Z RX4 cX4_reach 3) (hnL : gLoc X = 6) (hrt : gRet X = (some .int)) (v1 : Int32) (v2 : Int32)  (kx : tSt → Option (Int32 × tSt)) (hkx : ∀  (t : tSt), GF X (tM Z X 6 (fun x : Int32 => some (Value.int x))) (kx t) t 59 [(0, .ref (Z.2.2.2 18)), (1, .int v1), (2, .int v2)] []) : ∀ (k : Nat) (v3 : Int32) (t : tSt), GF X (tM Z X 6 (fun x : Int32 => some (Value.int x))) (fX4_reach_L39 v1 v2 kx k v3 t) t 39 [(0, .ref (Z.2.2.2 18)), (1, .int v1), (2, .int v2), (3, .int v3)] [] := by
  have hG := hC.1
  intro k
  induction k with
  | zero => intro v3 t; exact gf_none
  | succ k ih =>
    intro v3 t
    rw [fX4_reach_L39]
    refine gf_iload_n hG dX4_reach_39 rfl rfl ?_
    refine gf_bipush hG (nI 12) dX4_reach_40 (by decide) ?_
    refine gf_icmp_ge hG (tgt := 59) dX4_reach_42 (by decide) ?_ ?_
    · refine gf_aload_n hG dX4_reach_45 rfl rfl ?_
      refine tf_get hC 17 dX4_reach_46 (by decide) q1304 rfl ?_
      refine gf_iload_n hG dX4_reach_49 rfl rfl ?_
      refine gf_bipush hG (-2 : Int32) dX4_reach_50 (by decide) ?_
      refine tf_iast hC dX4_reach_52 (by decide) (fun t9 => ?_)
      refine gf_letiinc hG (c := (nI 1)) (lv' := fun y10 => [(0, .ref (Z.2.2.2 18)), (1, .int v1), (2, .int v2), (3, .int y10)]) dX4_reach_53 rfl (by decide) (Nat.le_of_ble_eq_true rfl) (fun _ => rfl) (fun y10 => ?_)
      refine gf_goto hG (tgt := 39) dX4_reach_56 (by decide) ?_
      exact ih y10 t9
    · refine gf_sub [0, 1, 2] rfl ?_
      exact hkx t
def fX4_reach_L87 (v2 : Int32) (v4 : Int32) (kx : Int32 → tSt → Option (Int32 × tSt)) : Nat → Int32 → Int32 → tSt → Option (Int32 × tSt)
  | 0, _, _, _ => none
  | k + 1, v3, v5, t =>
    rv (trd t 0 (nI 924)) (fun x14 =>
    if v5 < x14 then
      rv (trd t 10 v5) (fun x15 =>
      jn (fun (x16 : Int32) (t17 : tSt) =>
        letv (v5 + (nI 1)) (fun y19 =>
        fX4_reach_L87 v2 v4 kx k x16 y19 t17
        )
        ) (fun (j18 : Int32 → tSt → Option (Int32 × tSt)) =>
        if x15 < 0 then
          ob (fX4_isLive v5 t) (fun r20 t21 =>
          if r20 = 0 then
            j18 v3 t21
          else
            rv (trd t21 9 v4) (fun x22 =>
            ob (fX4_isNext v5 x22 t21) (fun r23 t24 =>
            if r23 = 0 then
              j18 v3 t24
            else
              rv (trd t24 9 v4) (fun x25 =>
              rv (trd t24 10 x25) (fun x26 =>
              rv (twr t24 10 v5 (x26 + (nI 1))) (fun t27 =>
              letv (v3 + (nI 1)) (fun y28 =>
              rv (twr t27 9 v3 v5) (fun t29 =>
              j18 y28 t29
              )
              )
              )
              )
              )
            )
            )
          )
        else
          j18 v3 t
        )
      )
    else
      kx v3 t
    )
set_option maxHeartbeats 4000000 in
theorem gfX4_reach_L87 {X : gCx} {Z : tZ} (hC : tOk X Z RX4 cX4_reach 3) (hnL : gLoc X = 6) (hrt : gRet X = (some .int)) (v2 : Int32) (v4 : Int32)  (kx : Int32 → tSt → Option (Int32 × tSt)) (hkx : ∀ (v3 : Int32) (t : tSt), GF X (tM Z X 6 (fun x : Int32 => some (Value.int x))) (kx v3 t) t 173 [(0, .ref (Z.2.2.2 18)), (2, .int v2), (3, .int v3), (4, .int v4)] []) : ∀ (k : Nat) (v3 : Int32) (v5 : Int32) (t : tSt), GF X (tM Z X 6 (fun x : Int32 => some (Value.int x))) (fX4_reach_L87 v2 v4 kx k v3 v5 t) t 87 [(0, .ref (Z.2.2.2 18)), (2, .int v2), (3, .int v3), (4, .int v4), (5, .int v5)] [] := by
  have hG := hC.1
  intro k
  induction k with
  | zero => intro v3 v5 t; exact gf_none
  | succ k ih =>
    intro v3 v5 t
    rw [fX4_reach_L87]
    refine gf_iload hG dX4_reach_87 rfl ?_
    refine gf_aload_n hG dX4_reach_89 rfl rfl ?_
    refine tf_get hC 0 dX4_reach_90 (by decide) q1287 rfl ?_
    refine gf_sipush hG (nI 924) dX4_reach_93 (by decide) ?_
    refine tf_iald hC dX4_reach_96 (by decide) (fun x14 => ?_)
    refine gf_icmp_ge hG (tgt := 173) dX4_reach_97 (by decide) ?_ ?_
    · refine gf_aload_n hG dX4_reach_100 rfl rfl ?_
      refine tf_get hC 17 dX4_reach_101 (by decide) q1304 rfl ?_
      refine gf_iload hG dX4_reach_104 rfl ?_
      refine tf_iald hC dX4_reach_106 (by decide) (fun x15 => ?_)
      refine gf_jn (fun j_ => ∀ (x16 : Int32) (t17 : tSt), GF X (tM Z X 6 (fun x : Int32 => some (Value.int x))) (j_ x16 t17) t17 167 [(0, .ref (Z.2.2.2 18)), (2, .int v2), (3, .int x16), (4, .int v4), (5, .int v5)] []) (fun x16 t17 => ?_) (fun j18 hj18 => ?_)
      · refine gf_letiinc hG (c := (nI 1)) (lv' := fun y19 => [(0, .ref (Z.2.2.2 18)), (2, .int v2), (3, .int x16), (4, .int v4), (5, .int y19)]) dX4_reach_167 rfl (by decide) (Nat.le_of_ble_eq_true rfl) (fun _ => rfl) (fun y19 => ?_)
        refine gf_goto hG (tgt := 87) dX4_reach_170 (by decide) ?_
        exact ih x16 y19 t17
      · refine gf_if_ge hG (tgt := 167) dX4_reach_107 (by decide) ?_ ?_
        · refine gf_aload_n hG dX4_reach_110 rfl rfl ?_
          refine gf_iload hG dX4_reach_111 rfl ?_
          refine tf_callV (f := fX4_isLive v5 t) (As := [.int v5]) (rest := []) (n := 1) (d' := 2) (st1 := fun r20 => [.int r20]) hC hnL (wX4_isLive (gLn X) Z hC.2.2.1 v5 t) dX4_reach_113 (lw_V q1372 q1374 qs32 q78 q1375) (by decide +kernel) rfl (by decide) (by decide) (Nat.le_of_ble_eq_true rfl) (fun _ => rfl) (fun r20 t21 => ?_)
          refine gf_if_eq hG (tgt := 167) dX4_reach_116 (by decide) ?_ ?_
          · exact hj18 v3 t21
          · refine gf_aload_n hG dX4_reach_119 rfl rfl ?_
            refine gf_iload hG dX4_reach_120 rfl ?_
            refine gf_aload_n hG dX4_reach_122 rfl rfl ?_
            refine tf_get hC 16 dX4_reach_123 (by decide) q1303 rfl ?_
            refine gf_iload hG dX4_reach_126 rfl ?_
            refine tf_iald hC dX4_reach_128 (by decide) (fun x22 => ?_)
            refine tf_callV (f := fX4_isNext v5 x22 t21) (As := [.int v5, .int x22]) (rest := []) (n := 2) (d' := 2) (st1 := fun r23 => [.int r23]) hC hnL (wX4_isNext (gLn X) Z hC.2.2.1 v5 x22 t21) dX4_reach_129 (lw_V q1589 q1591 qs64 q78 q1592) (by decide +kernel) rfl (by decide) (by decide) (Nat.le_of_ble_eq_true rfl) (fun _ => rfl) (fun r23 t24 => ?_)
            refine gf_if_eq hG (tgt := 167) dX4_reach_132 (by decide) ?_ ?_
            · exact hj18 v3 t24
            · refine gf_aload_n hG dX4_reach_135 rfl rfl ?_
              refine tf_get hC 17 dX4_reach_136 (by decide) q1304 rfl ?_
              refine gf_iload hG dX4_reach_139 rfl ?_
              refine gf_aload_n hG dX4_reach_141 rfl rfl ?_
              refine tf_get hC 17 dX4_reach_142 (by decide) q1304 rfl ?_
              refine gf_aload_n hG dX4_reach_145 rfl rfl ?_
              refine tf_get hC 16 dX4_reach_146 (by decide) q1303 rfl ?_
              refine gf_iload hG dX4_reach_149 rfl ?_
              refine tf_iald hC dX4_reach_151 (by decide) (fun x25 => ?_)
              refine tf_iald hC dX4_reach_152 (by decide) (fun x26 => ?_)
              refine gf_iconst hG (nI 1) dX4_reach_153 (by decide) ?_
              refine gf_iadd hG dX4_reach_154 ?_
              refine tf_iast hC dX4_reach_155 (by decide) (fun t27 => ?_)
              refine gf_aload_n hG dX4_reach_156 rfl rfl ?_
              refine tf_get hC 16 dX4_reach_157 (by decide) q1303 rfl ?_
              refine gf_iload_n hG dX4_reach_160 rfl rfl ?_
              refine gf_letiinc hG (c := (nI 1)) (lv' := fun y28 => [(0, .ref (Z.2.2.2 18)), (2, .int v2), (3, .int y28), (4, .int v4), (5, .int v5)]) dX4_reach_161 rfl (by decide) (Nat.le_of_ble_eq_true rfl) (fun _ => rfl) (fun y28 => ?_)
              refine gf_iload hG dX4_reach_164 rfl ?_
              refine tf_iast hC dX4_reach_166 (by decide) (fun t29 => ?_)
              exact hj18 y28 t29
        · exact hj18 v3 t
    · refine gf_sub [0, 1, 2, 3] rfl ?_
      exact hkx v3 t
def fX4_reach_L78 (v2 : Int32) (kx : tSt → Option (Int32 × tSt)) : Nat → Int32 → Int32 → tSt → Option (Int32 × tSt)
  | 0, _, _, _ => none
  | k + 1, v3, v4, t =>
    if v4 < v3 then
      fX4_reach_L87 v2 v4 (fun (v3_30 : Int32) (t31 : tSt) =>
        letv (v4 + (nI 1)) (fun y32 =>
        fX4_reach_L78 v2 kx k v3_30 y32 t31
        )
        ) FU v3 (nI 0) t
    else
      kx t
set_option maxHeartbeats 4000000 in
theorem gfX4_reach_L78 {X : gCx} {Z : tZ} (hC : tOk X Z RX4 cX4_reach 3) (hnL : gLoc X = 6) (hrt : gRet X = (some .int)) (v2 : Int32)  (kx : tSt → Option (Int32 × tSt)) (hkx : ∀  (t : tSt), GF X (tM Z X 6 (fun x : Int32 => some (Value.int x))) (kx t) t 179 [(0, .ref (Z.2.2.2 18)), (2, .int v2)] []) : ∀ (k : Nat) (v3 : Int32) (v4 : Int32) (t : tSt), GF X (tM Z X 6 (fun x : Int32 => some (Value.int x))) (fX4_reach_L78 v2 kx k v3 v4 t) t 78 [(0, .ref (Z.2.2.2 18)), (2, .int v2), (3, .int v3), (4, .int v4)] [] := by
  have hG := hC.1
  intro k
  induction k with
  | zero => intro v3 v4 t; exact gf_none
  | succ k ih =>
    intro v3 v4 t
    rw [fX4_reach_L78]
    refine gf_iload hG dX4_reach_78 rfl ?_
    refine gf_iload_n hG dX4_reach_80 rfl rfl ?_
    refine gf_icmp_ge hG (tgt := 179) dX4_reach_81 (by decide) ?_ ?_
    · refine gf_iconst hG (nI 0) dX4_reach_84 (by decide) ?_
      refine gf_istore hG dX4_reach_85 (Nat.le_of_ble_eq_true rfl) (lv' := [(0, _), (2, _), (3, _), (4, _), (5, _)]) rfl ?_
      refine gfX4_reach_L87 hC hnL hrt v2 v4 _ (fun v3_30 t31 => ?_) FU v3 (nI 0) t
      refine gf_letiinc hG (c := (nI 1)) (lv' := fun y32 => [(0, .ref (Z.2.2.2 18)), (2, .int v2), (3, .int v3_30), (4, .int y32)]) dX4_reach_173 rfl (by decide) (Nat.le_of_ble_eq_true rfl) (fun _ => rfl) (fun y32 => ?_)
      refine gf_goto hG (tgt := 78) dX4_reach_176 (by decide) ?_
      exact ih v3_30 y32 t31
    · refine gf_sub [0, 1] rfl ?_
      exact hkx t
def fX4_reach (v1 : Int32) (v2 : Int32) (t : tSt) : Option (Int32 × tSt) :=
  ob (fX4_isActor v1 t) (fun r1 t2 =>
  if r1 = 0 then
    some ((-1 : Int32), t2)
  else
    ob (fX4_isActor v2 t2) (fun r3 t4 =>
    if r3 = 0 then
      some ((-1 : Int32), t4)
    else
      ob (fX4_isLive v1 t4) (fun r5 t6 =>
      if r5 = 0 then
        some ((-2 : Int32), t6)
      else
        ob (fX4_isLive v2 t6) (fun r7 t8 =>
        if r7 = 0 then
          some ((-2 : Int32), t8)
        else
          fX4_reach_L39 v1 v2 (fun  (t11 : tSt) =>
            rv (twr t11 10 v1 (nI 0)) (fun t12 =>
            rv (twr t12 9 (nI 0) v1) (fun t13 =>
            fX4_reach_L78 v2 (fun  (t33 : tSt) =>
              rv (trd t33 10 v2) (fun x34 =>
              some (x34, t33)
              )
              ) FU (nI 1) (nI 0) t13
            )
            )
            ) FU (nI 0) t8
        )
      )
    )
  )
set_option maxHeartbeats 4000000 in
theorem wX4_reach (l : Launch) (Z : tZ) (hj : tInj Z) (v1 : Int32) (v2 : Int32) (t : tSt)  : ∀ (r : Int32) (t' : tSt), fX4_reach v1 v2 t = some (r, t') → tCt l Z yX4_reach cX4_reach 6 (some .int) 3 [.ref (Z.2.2.2 18), .int v1, .int v2] t (some (.int r)) t' := by
  refine tmet (ρ := (fun x : Int32 => some (Value.int x))) (av := [.ref (Z.2.2.2 18), .int v1, .int v2]) hj (by decide +kernel) (Nat.le_of_ble_eq_true rfl) (lv_args_cat (List.forall_mem_cons.mpr ⟨rfl, List.forall_mem_cons.mpr ⟨rfl, List.forall_mem_cons.mpr ⟨rfl, fun _ h => absurd h List.not_mem_nil⟩⟩⟩)) ?_
  intro X hln hC hnL hrt
  subst hln
  have hG := hC.1
  show GF X (tM Z X 6 (fun x : Int32 => some (Value.int x))) _ t 0 [(0, .ref (Z.2.2.2 18)), (1, .int v1), (2, .int v2)] []
  unfold fX4_reach
  refine gf_aload_n hG dX4_reach_0 rfl rfl ?_
  refine gf_iload_n hG dX4_reach_1 rfl rfl ?_
  refine tf_callV (f := fX4_isActor v1 t) (As := [.int v1]) (rest := []) (n := 1) (d' := 2) (st1 := fun r1 => [.int r1]) hC hnL (wX4_isActor (gLn X) Z hC.2.2.1 v1 t) dX4_reach_2 (lw_V q1362 q1364 qs31 q78 q1365) (by decide +kernel) rfl (by decide) (by decide) (Nat.le_of_ble_eq_true rfl) (fun _ => rfl) (fun r1 t2 => ?_)
  refine gf_if_eq hG (tgt := 16) dX4_reach_5 (by decide) ?_ ?_
  · refine gf_iconst hG (-1 : Int32) dX4_reach_16 (by decide) ?_
    exact tf_ret hC hrt rfl rfl dX4_reach_17
  · refine gf_aload_n hG dX4_reach_8 rfl rfl ?_
    refine gf_iload_n hG dX4_reach_9 rfl rfl ?_
    refine tf_callV (f := fX4_isActor v2 t2) (As := [.int v2]) (rest := []) (n := 1) (d' := 2) (st1 := fun r3 => [.int r3]) hC hnL (wX4_isActor (gLn X) Z hC.2.2.1 v2 t2) dX4_reach_10 (lw_V q1362 q1364 qs31 q78 q1365) (by decide +kernel) rfl (by decide) (by decide) (Nat.le_of_ble_eq_true rfl) (fun _ => rfl) (fun r3 t4 => ?_)
    refine gf_if_ne hG (tgt := 18) dX4_reach_13 (by decide) ?_ ?_
    · refine gf_iconst hG (-1 : Int32) dX4_reach_16 (by decide) ?_
      exact tf_ret hC hrt rfl rfl dX4_reach_17
    · refine gf_aload_n hG dX4_reach_18 rfl rfl ?_
      refine gf_iload_n hG dX4_reach_19 rfl rfl ?_
      refine tf_callV (f := fX4_isLive v1 t4) (As := [.int v1]) (rest := []) (n := 1) (d' := 2) (st1 := fun r5 => [.int r5]) hC hnL (wX4_isLive (gLn X) Z hC.2.2.1 v1 t4) dX4_reach_20 (lw_V q1372 q1374 qs32 q78 q1375) (by decide +kernel) rfl (by decide) (by decide) (Nat.le_of_ble_eq_true rfl) (fun _ => rfl) (fun r5 t6 => ?_)
      refine gf_if_eq hG (tgt := 34) dX4_reach_23 (by decide) ?_ ?_
      · refine gf_bipush hG (-2 : Int32) dX4_reach_34 (by decide) ?_
        exact tf_ret hC hrt rfl rfl dX4_reach_36
      · refine gf_aload_n hG dX4_reach_26 rfl rfl ?_
        refine gf_iload_n hG dX4_reach_27 rfl rfl ?_
        refine tf_callV (f := fX4_isLive v2 t6) (As := [.int v2]) (rest := []) (n := 1) (d' := 2) (st1 := fun r7 => [.int r7]) hC hnL (wX4_isLive (gLn X) Z hC.2.2.1 v2 t6) dX4_reach_28 (lw_V q1372 q1374 qs32 q78 q1375) (by decide +kernel) rfl (by decide) (by decide) (Nat.le_of_ble_eq_true rfl) (fun _ => rfl) (fun r7 t8 => ?_)
        refine gf_if_ne hG (tgt := 37) dX4_reach_31 (by decide) ?_ ?_
        · refine gf_bipush hG (-2 : Int32) dX4_reach_34 (by decide) ?_
          exact tf_ret hC hrt rfl rfl dX4_reach_36
        · refine gf_iconst hG (nI 0) dX4_reach_37 (by decide) ?_
          refine gf_istore_n hG dX4_reach_38 rfl (Nat.le_of_ble_eq_true rfl) (lv' := [(0, _), (1, _), (2, _), (3, _)]) rfl ?_
          refine gfX4_reach_L39 hC hnL hrt v1 v2 _ (fun t11 => ?_) FU (nI 0) t8
          refine gf_aload_n hG dX4_reach_59 rfl rfl ?_
          refine tf_get hC 17 dX4_reach_60 (by decide) q1304 rfl ?_
          refine gf_iload_n hG dX4_reach_63 rfl rfl ?_
          refine gf_iconst hG (nI 0) dX4_reach_64 (by decide) ?_
          refine tf_iast hC dX4_reach_65 (by decide) (fun t12 => ?_)
          refine gf_aload_n hG dX4_reach_66 rfl rfl ?_
          refine tf_get hC 16 dX4_reach_67 (by decide) q1303 rfl ?_
          refine gf_iconst hG (nI 0) dX4_reach_70 (by decide) ?_
          refine gf_iload_n hG dX4_reach_71 rfl rfl ?_
          refine tf_iast hC dX4_reach_72 (by decide) (fun t13 => ?_)
          refine gf_iconst hG (nI 1) dX4_reach_73 (by decide) ?_
          refine gf_istore_n hG dX4_reach_74 rfl (Nat.le_of_ble_eq_true rfl) (lv' := [(0, _), (1, _), (2, _), (3, _)]) rfl ?_
          refine gf_iconst hG (nI 0) dX4_reach_75 (by decide) ?_
          refine gf_istore hG dX4_reach_76 (Nat.le_of_ble_eq_true rfl) (lv' := [(0, _), (1, _), (2, _), (3, _), (4, _)]) rfl ?_
          refine gf_sub [0, 2, 3, 4] rfl ?_
          refine gfX4_reach_L78 hC hnL hrt v2 _ (fun t33 => ?_) FU (nI 1) (nI 0) t13
          refine gf_aload_n hG dX4_reach_179 rfl rfl ?_
          refine tf_get hC 17 dX4_reach_180 (by decide) q1304 rfl ?_
          refine gf_iload_n hG dX4_reach_183 rfl rfl ?_
          refine tf_iald hC dX4_reach_184 (by decide) (fun x34 => ?_)
          exact tf_ret hC hrt rfl rfl dX4_reach_185
def fX4_feed (v1 : Int32) (t : tSt) : Option (Int32 × tSt) :=
  ob (fX4_in v1 (nI 0) (nI 255) t) (fun r1 t2 =>
  if r1 = 0 then
    some ((-1 : Int32), t2)
  else
    if (t2 18 11) = (nI 120) then
      some ((-3 : Int32), t2)
    else
      letv (tup t2 18 11 ((t2 18 11) + (nI 1))) (fun t3 =>
      rv (twr t3 5 (t2 18 11) v1) (fun t4 =>
      some ((t4 18 11), t4)
      )
      )
  )
set_option maxHeartbeats 4000000 in
theorem wX4_feed (l : Launch) (Z : tZ) (hj : tInj Z) (v1 : Int32) (t : tSt)  : ∀ (r : Int32) (t' : tSt), fX4_feed v1 t = some (r, t') → tCt l Z yX4_feed cX4_feed 2 (some .int) 2 [.ref (Z.2.2.2 18), .int v1] t (some (.int r)) t' := by
  refine tmet (ρ := (fun x : Int32 => some (Value.int x))) (av := [.ref (Z.2.2.2 18), .int v1]) hj (by decide +kernel) (Nat.le_of_ble_eq_true rfl) (lv_args_cat (List.forall_mem_cons.mpr ⟨rfl, List.forall_mem_cons.mpr ⟨rfl, fun _ h => absurd h List.not_mem_nil⟩⟩)) ?_
  intro X hln hC hnL hrt
  subst hln
  have hG := hC.1
  show GF X (tM Z X 2 (fun x : Int32 => some (Value.int x))) _ t 0 [(0, .ref (Z.2.2.2 18)), (1, .int v1)] []
  unfold fX4_feed
  refine gf_iload_n hG dX4_feed_0 rfl rfl ?_
  refine gf_iconst hG (nI 0) dX4_feed_1 (by decide) ?_
  refine gf_sipush hG (nI 255) dX4_feed_2 (by decide) ?_
  refine tf_callS (f := fX4_in v1 (nI 0) (nI 255) t) (As := [.int v1, .int (nI 0), .int (nI 255)]) (rest := []) (n := 3) (d' := 1) (st1 := fun r1 => [.int r1]) hC hnL (wX4_in (gLn X) Z hC.2.2.1 v1 (nI 0) (nI 255) t) dX4_feed_5 (lw_S q1366 q1367 q78 q1368) (by decide +kernel) rfl (by decide) (by decide) (Nat.le_of_ble_eq_true rfl) (fun _ => rfl) (fun r1 t2 => ?_)
  refine gf_if_ne hG (tgt := 13) dX4_feed_8 (by decide) ?_ ?_
  · refine gf_iconst hG (-1 : Int32) dX4_feed_11 (by decide) ?_
    exact tf_ret hC hrt rfl rfl dX4_feed_12
  · refine gf_aload_n hG dX4_feed_13 rfl rfl ?_
    refine tf_get hC 11 dX4_feed_14 (by decide) q1298 rfl ?_
    refine gf_bipush hG (nI 120) dX4_feed_17 (by decide) ?_
    refine gf_icmp_ne hG (tgt := 25) dX4_feed_19 (by decide) ?_ ?_
    · refine gf_bipush hG (-3 : Int32) dX4_feed_22 (by decide) ?_
      exact tf_ret hC hrt rfl rfl dX4_feed_24
    · refine gf_aload_n hG dX4_feed_25 rfl rfl ?_
      refine tf_get hC 10 dX4_feed_26 (by decide) q1297 rfl ?_
      refine gf_aload_n hG dX4_feed_29 rfl rfl ?_
      refine gf_dup hG dX4_feed_30 rfl ?_
      refine tf_get hC 11 dX4_feed_31 (by decide) q1298 rfl ?_
      refine gf_dup_x1 hG dX4_feed_34 rfl rfl ?_
      refine gf_iconst hG (nI 1) dX4_feed_35 (by decide) ?_
      refine gf_iadd hG dX4_feed_36 ?_
      refine tf_put hC 11 dX4_feed_37 (by decide) q1298 rfl (by first | rfl | decide) (by first | rfl | decide) (fun _ => rfl) ?_
      refine gf_letS (fun t3 => ?_)
      refine gf_iload_n hG dX4_feed_40 rfl rfl ?_
      refine tf_iast hC dX4_feed_41 (by decide) (fun t4 => ?_)
      refine gf_aload_n hG dX4_feed_42 rfl rfl ?_
      refine tf_get hC 11 dX4_feed_43 (by decide) q1298 rfl ?_
      exact tf_ret hC hrt rfl rfl dX4_feed_46
def fX4_does (v1 : Int32) (t : tSt) : Option (Int32 × tSt) :=
  if v1 = (nI 97) then
    rv (trd t 11 (nI 0)) (fun x1 =>
    jn (fun (x2 : Int32) (t3 : tSt) =>
      rv (trd t3 11 (nI 2)) (fun x5 =>
      ob (fX4_in x5 (nI 0) (nI 2) t3) (fun r6 t7 =>
      jn (fun (x8 : Int32) (t9 : tSt) =>
        if x8 = 0 then
          some ((nI 0), t9)
        else
          rv (trd t9 11 (nI 1)) (fun x11 =>
          rv (trd t9 11 (nI 2)) (fun x12 =>
          rv (trd t9 11 (nI 3)) (fun x13 =>
          rv (trd t9 11 (nI 4)) (fun x14 =>
          ob (fX4_actor x2 x11 ((((nI 1000) * x12) + ((nI 100) * x13)) + x14) t9) (fun r15 t16 =>
          if r15 < 0 then
            some ((nI 0), t16)
          else
            some ((nI 1), t16)
          )
          )
          )
          )
          )
        ) (fun (j10 : Int32 → tSt → Option (Int32 × tSt)) =>
        jn (fun  (t17 : tSt) =>
          j10 (nI 0) t17
          ) (fun (j18 : tSt → Option (Int32 × tSt)) =>
          if r6 = 0 then
            j18 t7
          else
            rv (trd t7 11 (nI 3)) (fun x19 =>
            ob (fX4_in x19 (nI 0) (nI 9) t7) (fun r20 t21 =>
            if r20 = 0 then
              j18 t21
            else
              rv (trd t21 11 (nI 4)) (fun x22 =>
              ob (fX4_in x22 (nI 1) (nI 50) t21) (fun r23 t24 =>
              if r23 = 0 then
                j18 t24
              else
                j10 (nI 1) t24
              )
              )
            )
            )
          )
        )
      )
      )
      ) (fun (j4 : Int32 → tSt → Option (Int32 × tSt)) =>
      if x1 = (nI 99) then
        j4 (-1 : Int32) t
      else
        rv (trd t 11 (nI 0)) (fun x25 =>
        j4 x25 t
        )
      )
    )
  else
    if v1 = (nI 109) then
      rv (trd t 11 (nI 0)) (fun x26 =>
      ob (fX4_isActor x26 t) (fun r27 t28 =>
      if r27 = 0 then
        gd (r27 = nI 0 ∨ r27 = nI 1) (some (r27, t28))
      else
        rv (trd t28 11 (nI 0)) (fun x29 =>
        rv (trd t28 11 (nI 1)) (fun x30 =>
        ob (fX4_sends x29 (-1 : Int32) x30 t28) (fun r31 t32 =>
        gd (r27 = nI 0 ∨ r27 = nI 1) (some (r27, t32))
        )
        )
        )
      )
      )
    else
      rv (trd t 11 (nI 0)) (fun x33 =>
      if 0 < x33 then
        rv (trd t 11 (nI 0)) (fun x34 =>
        ob (fX4_run x34 t) (fun r35 t36 =>
        if r35 < 0 then
          some ((nI 0), t36)
        else
          some ((nI 1), t36)
        )
        )
      else
        some ((nI 0), t)
      )
set_option maxHeartbeats 4000000 in
theorem wX4_does (l : Launch) (Z : tZ) (hj : tInj Z) (v1 : Int32) (t : tSt)  : ∀ (r : Int32) (t' : tSt), fX4_does v1 t = some (r, t') → tCt l Z yX4_does cX4_does 4 (some .boolean) 47 [.ref (Z.2.2.2 18), .int v1] t (some (.int r)) t' := by
  refine tmet (ρ := (fun x : Int32 => some (Value.int x))) (av := [.ref (Z.2.2.2 18), .int v1]) hj (by decide +kernel) (Nat.le_of_ble_eq_true rfl) (lv_args_cat (List.forall_mem_cons.mpr ⟨rfl, List.forall_mem_cons.mpr ⟨rfl, fun _ h => absurd h List.not_mem_nil⟩⟩)) ?_
  intro X hln hC hnL hrt
  subst hln
  have hG := hC.1
  show GF X (tM Z X 4 (fun x : Int32 => some (Value.int x))) _ t 0 [(0, .ref (Z.2.2.2 18)), (1, .int v1)] []
  unfold fX4_does
  refine gf_iload_n hG dX4_does_0 rfl rfl ?_
  refine gf_bipush hG (nI 97) dX4_does_1 (by decide) ?_
  refine gf_icmp_ne hG (tgt := 129) dX4_does_3 (by decide) ?_ ?_
  · refine gf_aload_n hG dX4_does_6 rfl rfl ?_
    refine tf_get hC 21 dX4_does_7 (by decide) q1308 rfl ?_
    refine gf_iconst hG (nI 0) dX4_does_10 (by decide) ?_
    refine tf_iald hC dX4_does_11 (by decide) (fun x1 => ?_)
    refine gf_bipush hG (nI 99) dX4_does_12 (by decide) ?_
    refine gf_jn (fun j_ => ∀ (x2 : Int32) (t3 : tSt), GF X (tM Z X 4 (fun x : Int32 => some (Value.int x))) (j_ x2 t3) t3 27 [(0, .ref (Z.2.2.2 18))] [.int x2]) (fun x2 t3 => ?_) (fun j4 hj4 => ?_)
    · refine gf_istore_n hG dX4_does_27 rfl (Nat.le_of_ble_eq_true rfl) (lv' := [(0, _), (2, _)]) rfl ?_
      refine gf_aload_n hG dX4_does_28 rfl rfl ?_
      refine tf_get hC 21 dX4_does_29 (by decide) q1308 rfl ?_
      refine gf_iconst hG (nI 2) dX4_does_32 (by decide) ?_
      refine tf_iald hC dX4_does_33 (by decide) (fun x5 => ?_)
      refine gf_iconst hG (nI 0) dX4_does_34 (by decide) ?_
      refine gf_iconst hG (nI 2) dX4_does_35 (by decide) ?_
      refine tf_callS (f := fX4_in x5 (nI 0) (nI 2) t3) (As := [.int x5, .int (nI 0), .int (nI 2)]) (rest := []) (n := 3) (d' := 1) (st1 := fun r6 => [.int r6]) hC hnL (wX4_in (gLn X) Z hC.2.2.1 x5 (nI 0) (nI 2) t3) dX4_does_36 (lw_S q1366 q1367 q78 q1368) (by decide +kernel) rfl (by decide) (by decide) (Nat.le_of_ble_eq_true rfl) (fun _ => rfl) (fun r6 t7 => ?_)
      refine gf_jn (fun j_ => ∀ (x8 : Int32) (t9 : tSt), GF X (tM Z X 4 (fun x : Int32 => some (Value.int x))) (j_ x8 t9) t9 77 [(0, .ref (Z.2.2.2 18)), (2, .int x2)] [.int x8]) (fun x8 t9 => ?_) (fun j10 hj10 => ?_)
      · refine gf_istore_n hG dX4_does_77 rfl (Nat.le_of_ble_eq_true rfl) (lv' := [(0, _), (2, _), (3, _)]) rfl ?_
        refine gf_iload_n hG dX4_does_78 rfl rfl ?_
        refine gf_if_eq hG (tgt := 127) dX4_does_79 (by decide) ?_ ?_
        · refine gf_iconst hG (nI 0) dX4_does_127 (by decide) ?_
          exact tf_ret hC hrt (by decide) rfl dX4_does_128
        · refine gf_aload_n hG dX4_does_82 rfl rfl ?_
          refine gf_iload_n hG dX4_does_83 rfl rfl ?_
          refine gf_aload_n hG dX4_does_84 rfl rfl ?_
          refine tf_get hC 21 dX4_does_85 (by decide) q1308 rfl ?_
          refine gf_iconst hG (nI 1) dX4_does_88 (by decide) ?_
          refine tf_iald hC dX4_does_89 (by decide) (fun x11 => ?_)
          refine gf_sipush hG (nI 1000) dX4_does_90 (by decide) ?_
          refine gf_aload_n hG dX4_does_93 rfl rfl ?_
          refine tf_get hC 21 dX4_does_94 (by decide) q1308 rfl ?_
          refine gf_iconst hG (nI 2) dX4_does_97 (by decide) ?_
          refine tf_iald hC dX4_does_98 (by decide) (fun x12 => ?_)
          refine gf_imul hG dX4_does_99 ?_
          refine gf_bipush hG (nI 100) dX4_does_100 (by decide) ?_
          refine gf_aload_n hG dX4_does_102 rfl rfl ?_
          refine tf_get hC 21 dX4_does_103 (by decide) q1308 rfl ?_
          refine gf_iconst hG (nI 3) dX4_does_106 (by decide) ?_
          refine tf_iald hC dX4_does_107 (by decide) (fun x13 => ?_)
          refine gf_imul hG dX4_does_108 ?_
          refine gf_iadd hG dX4_does_109 ?_
          refine gf_aload_n hG dX4_does_110 rfl rfl ?_
          refine tf_get hC 21 dX4_does_111 (by decide) q1308 rfl ?_
          refine gf_iconst hG (nI 4) dX4_does_114 (by decide) ?_
          refine tf_iald hC dX4_does_115 (by decide) (fun x14 => ?_)
          refine gf_iadd hG dX4_does_116 ?_
          refine tf_callV (f := fX4_actor x2 x11 ((((nI 1000) * x12) + ((nI 100) * x13)) + x14) t9) (As := [.int x2, .int x11, .int ((((nI 1000) * x12) + ((nI 100) * x13)) + x14)]) (rest := []) (n := 3) (d' := 4) (st1 := fun r15 => [.int r15]) hC hnL (wX4_actor (gLn X) Z hC.2.2.1 x2 x11 ((((nI 1000) * x12) + ((nI 100) * x13)) + x14) t9) dX4_does_117 (lw_V q1625 q1355 q1356 q78 q1357) (by decide +kernel) rfl (by decide) (by decide) (Nat.le_of_ble_eq_true rfl) (fun _ => rfl) (fun r15 t16 => ?_)
          refine gf_if_lt hG (tgt := 127) dX4_does_120 (by decide) ?_ ?_
          · refine gf_iconst hG (nI 0) dX4_does_127 (by decide) ?_
            exact tf_ret hC hrt (by decide) rfl dX4_does_128
          · refine gf_iconst hG (nI 1) dX4_does_123 (by decide) ?_
            refine gf_goto hG (tgt := 128) dX4_does_124 (by decide) ?_
            exact tf_ret hC hrt (by decide) rfl dX4_does_128
      · refine gf_jn (fun j_ => ∀  (t17 : tSt), GF X (tM Z X 4 (fun x : Int32 => some (Value.int x))) (j_ t17) t17 76 [(0, .ref (Z.2.2.2 18)), (2, .int x2)] []) (fun t17 => ?_) (fun j18 hj18 => ?_)
        · refine gf_iconst hG (nI 0) dX4_does_76 (by decide) ?_
          exact hj10 (nI 0) t17
        · refine gf_if_eq hG (tgt := 76) dX4_does_39 (by decide) ?_ ?_
          · exact hj18 t7
          · refine gf_aload_n hG dX4_does_42 rfl rfl ?_
            refine tf_get hC 21 dX4_does_43 (by decide) q1308 rfl ?_
            refine gf_iconst hG (nI 3) dX4_does_46 (by decide) ?_
            refine tf_iald hC dX4_does_47 (by decide) (fun x19 => ?_)
            refine gf_iconst hG (nI 0) dX4_does_48 (by decide) ?_
            refine gf_bipush hG (nI 9) dX4_does_49 (by decide) ?_
            refine tf_callS (f := fX4_in x19 (nI 0) (nI 9) t7) (As := [.int x19, .int (nI 0), .int (nI 9)]) (rest := []) (n := 3) (d' := 1) (st1 := fun r20 => [.int r20]) hC hnL (wX4_in (gLn X) Z hC.2.2.1 x19 (nI 0) (nI 9) t7) dX4_does_51 (lw_S q1366 q1367 q78 q1368) (by decide +kernel) rfl (by decide) (by decide) (Nat.le_of_ble_eq_true rfl) (fun _ => rfl) (fun r20 t21 => ?_)
            refine gf_if_eq hG (tgt := 76) dX4_does_54 (by decide) ?_ ?_
            · exact hj18 t21
            · refine gf_aload_n hG dX4_does_57 rfl rfl ?_
              refine tf_get hC 21 dX4_does_58 (by decide) q1308 rfl ?_
              refine gf_iconst hG (nI 4) dX4_does_61 (by decide) ?_
              refine tf_iald hC dX4_does_62 (by decide) (fun x22 => ?_)
              refine gf_iconst hG (nI 1) dX4_does_63 (by decide) ?_
              refine gf_bipush hG (nI 50) dX4_does_64 (by decide) ?_
              refine tf_callS (f := fX4_in x22 (nI 1) (nI 50) t21) (As := [.int x22, .int (nI 1), .int (nI 50)]) (rest := []) (n := 3) (d' := 1) (st1 := fun r23 => [.int r23]) hC hnL (wX4_in (gLn X) Z hC.2.2.1 x22 (nI 1) (nI 50) t21) dX4_does_66 (lw_S q1366 q1367 q78 q1368) (by decide +kernel) rfl (by decide) (by decide) (Nat.le_of_ble_eq_true rfl) (fun _ => rfl) (fun r23 t24 => ?_)
              refine gf_if_eq hG (tgt := 76) dX4_does_69 (by decide) ?_ ?_
              · exact hj18 t24
              · refine gf_iconst hG (nI 1) dX4_does_72 (by decide) ?_
                refine gf_goto hG (tgt := 77) dX4_does_73 (by decide) ?_
                exact hj10 (nI 1) t24
    · refine gf_icmp_ne hG (tgt := 21) dX4_does_14 (by decide) ?_ ?_
      · refine gf_iconst hG (-1 : Int32) dX4_does_17 (by decide) ?_
        refine gf_goto hG (tgt := 27) dX4_does_18 (by decide) ?_
        refine gf_sub [0] rfl ?_
        exact hj4 (-1 : Int32) t
      · refine gf_aload_n hG dX4_does_21 rfl rfl ?_
        refine tf_get hC 21 dX4_does_22 (by decide) q1308 rfl ?_
        refine gf_iconst hG (nI 0) dX4_does_25 (by decide) ?_
        refine tf_iald hC dX4_does_26 (by decide) (fun x25 => ?_)
        refine gf_sub [0] rfl ?_
        exact hj4 x25 t
  · refine gf_iload_n hG dX4_does_129 rfl rfl ?_
    refine gf_bipush hG (nI 109) dX4_does_130 (by decide) ?_
    refine gf_icmp_ne hG (tgt := 170) dX4_does_132 (by decide) ?_ ?_
    · refine gf_aload_n hG dX4_does_135 rfl rfl ?_
      refine gf_aload_n hG dX4_does_136 rfl rfl ?_
      refine tf_get hC 21 dX4_does_137 (by decide) q1308 rfl ?_
      refine gf_iconst hG (nI 0) dX4_does_140 (by decide) ?_
      refine tf_iald hC dX4_does_141 (by decide) (fun x26 => ?_)
      refine tf_callV (f := fX4_isActor x26 t) (As := [.int x26]) (rest := []) (n := 1) (d' := 2) (st1 := fun r27 => [.int r27]) hC hnL (wX4_isActor (gLn X) Z hC.2.2.1 x26 t) dX4_does_142 (lw_V q1362 q1364 qs31 q78 q1365) (by decide +kernel) rfl (by decide) (by decide) (Nat.le_of_ble_eq_true rfl) (fun _ => rfl) (fun r27 t28 => ?_)
      refine gf_istore_n hG dX4_does_145 rfl (Nat.le_of_ble_eq_true rfl) (lv' := [(0, _), (1, _), (2, _)]) rfl ?_
      refine gf_iload_n hG dX4_does_146 rfl rfl ?_
      refine gf_if_eq hG (tgt := 168) dX4_does_147 (by decide) ?_ ?_
      · refine gf_iload_n hG dX4_does_168 rfl rfl ?_
        exact gf_gd (fun hz => tf_ret hC hrt (nar_z hz) rfl dX4_does_169)
      · refine gf_aload_n hG dX4_does_150 rfl rfl ?_
        refine gf_aload_n hG dX4_does_151 rfl rfl ?_
        refine tf_get hC 21 dX4_does_152 (by decide) q1308 rfl ?_
        refine gf_iconst hG (nI 0) dX4_does_155 (by decide) ?_
        refine tf_iald hC dX4_does_156 (by decide) (fun x29 => ?_)
        refine gf_iconst hG (-1 : Int32) dX4_does_157 (by decide) ?_
        refine gf_aload_n hG dX4_does_158 rfl rfl ?_
        refine tf_get hC 21 dX4_does_159 (by decide) q1308 rfl ?_
        refine gf_iconst hG (nI 1) dX4_does_162 (by decide) ?_
        refine tf_iald hC dX4_does_163 (by decide) (fun x30 => ?_)
        refine tf_callV (f := fX4_sends x29 (-1 : Int32) x30 t28) (As := [.int x29, .int (-1 : Int32), .int x30]) (rest := []) (n := 3) (d' := 3) (st1 := fun r31 => [.int r31]) hC hnL (wX4_sends (gLn X) Z hC.2.2.1 x29 (-1 : Int32) x30 t28) dX4_does_164 (lw_V q1391 q1393 qs35 q78 q1394) (by decide +kernel) rfl (by decide) (by decide) (Nat.le_of_ble_eq_true rfl) (fun _ => rfl) (fun r31 t32 => ?_)
        refine gf_pop hG dX4_does_167 rfl ?_
        refine gf_iload_n hG dX4_does_168 rfl rfl ?_
        exact gf_gd (fun hz => tf_ret hC hrt (nar_z hz) rfl dX4_does_169)
    · refine gf_aload_n hG dX4_does_170 rfl rfl ?_
      refine tf_get hC 21 dX4_does_171 (by decide) q1308 rfl ?_
      refine gf_iconst hG (nI 0) dX4_does_174 (by decide) ?_
      refine tf_iald hC dX4_does_175 (by decide) (fun x33 => ?_)
      refine gf_if_le hG (tgt := 196) dX4_does_176 (by decide) ?_ ?_
      · refine gf_aload_n hG dX4_does_179 rfl rfl ?_
        refine gf_aload_n hG dX4_does_180 rfl rfl ?_
        refine tf_get hC 21 dX4_does_181 (by decide) q1308 rfl ?_
        refine gf_iconst hG (nI 0) dX4_does_184 (by decide) ?_
        refine tf_iald hC dX4_does_185 (by decide) (fun x34 => ?_)
        refine tf_callV (f := fX4_run x34 t) (As := [.int x34]) (rest := []) (n := 1) (d' := 46) (st1 := fun r35 => [.int r35]) hC hnL (wX4_run (gLn X) Z hC.2.2.1 x34 t) dX4_does_186 (lw_V q1626 q1476 q1477 q78 q1478) (by decide +kernel) rfl (by decide) (by decide) (Nat.le_of_ble_eq_true rfl) (fun _ => rfl) (fun r35 t36 => ?_)
        refine gf_if_lt hG (tgt := 196) dX4_does_189 (by decide) ?_ ?_
        · refine gf_iconst hG (nI 0) dX4_does_196 (by decide) ?_
          exact tf_ret hC hrt (by decide) rfl dX4_does_197
        · refine gf_iconst hG (nI 1) dX4_does_192 (by decide) ?_
          refine gf_goto hG (tgt := 197) dX4_does_193 (by decide) ?_
          exact tf_ret hC hrt (by decide) rfl dX4_does_197
      · refine gf_iconst hG (nI 0) dX4_does_196 (by decide) ?_
        exact tf_ret hC hrt (by decide) rfl dX4_does_197
def fX4_sees (v1 : Int32) (v2 : Int32) (t : tSt) : Option (Int32 × tSt) :=
  if (t 18 20) < 0 then
    if (t 18 19) < (t 18 11) then
      rv (trd t 5 (t 18 19)) (fun x1 =>
      ob (fX4_in x1 v1 v2 t) (fun r2 t3 =>
      if r2 = 0 then
        some ((nI 0), t3)
      else
        some ((nI 1), t3)
      )
      )
    else
      some ((nI 0), t)
  else
    some ((nI 0), t)
set_option maxHeartbeats 4000000 in
theorem wX4_sees (l : Launch) (Z : tZ) (hj : tInj Z) (v1 : Int32) (v2 : Int32) (t : tSt)  : ∀ (r : Int32) (t' : tSt), fX4_sees v1 v2 t = some (r, t') → tCt l Z yX4_sees cX4_sees 3 (some .boolean) 2 [.ref (Z.2.2.2 18), .int v1, .int v2] t (some (.int r)) t' := by
  refine tmet (ρ := (fun x : Int32 => some (Value.int x))) (av := [.ref (Z.2.2.2 18), .int v1, .int v2]) hj (by decide +kernel) (Nat.le_of_ble_eq_true rfl) (lv_args_cat (List.forall_mem_cons.mpr ⟨rfl, List.forall_mem_cons.mpr ⟨rfl, List.forall_mem_cons.mpr ⟨rfl, fun _ h => absurd h List.not_mem_nil⟩⟩⟩)) ?_
  intro X hln hC hnL hrt
  subst hln
  have hG := hC.1
  show GF X (tM Z X 3 (fun x : Int32 => some (Value.int x))) _ t 0 [(0, .ref (Z.2.2.2 18)), (1, .int v1), (2, .int v2)] []
  unfold fX4_sees
  refine gf_aload_n hG dX4_sees_0 rfl rfl ?_
  refine tf_get hC 20 dX4_sees_1 (by decide) q1307 rfl ?_
  refine gf_if_ge hG (tgt := 39) dX4_sees_4 (by decide) ?_ ?_
  · refine gf_aload_n hG dX4_sees_7 rfl rfl ?_
    refine tf_get hC 19 dX4_sees_8 (by decide) q1306 rfl ?_
    refine gf_aload_n hG dX4_sees_11 rfl rfl ?_
    refine tf_get hC 11 dX4_sees_12 (by decide) q1298 rfl ?_
    refine gf_icmp_ge hG (tgt := 39) dX4_sees_15 (by decide) ?_ ?_
    · refine gf_aload_n hG dX4_sees_18 rfl rfl ?_
      refine tf_get hC 10 dX4_sees_19 (by decide) q1297 rfl ?_
      refine gf_aload_n hG dX4_sees_22 rfl rfl ?_
      refine tf_get hC 19 dX4_sees_23 (by decide) q1306 rfl ?_
      refine tf_iald hC dX4_sees_26 (by decide) (fun x1 => ?_)
      refine gf_iload_n hG dX4_sees_27 rfl rfl ?_
      refine gf_iload_n hG dX4_sees_28 rfl rfl ?_
      refine tf_callS (f := fX4_in x1 v1 v2 t) (As := [.int x1, .int v1, .int v2]) (rest := []) (n := 3) (d' := 1) (st1 := fun r2 => [.int r2]) hC hnL (wX4_in (gLn X) Z hC.2.2.1 x1 v1 v2 t) dX4_sees_29 (lw_S q1366 q1367 q78 q1368) (by decide +kernel) rfl (by decide) (by decide) (Nat.le_of_ble_eq_true rfl) (fun _ => rfl) (fun r2 t3 => ?_)
      refine gf_if_eq hG (tgt := 39) dX4_sees_32 (by decide) ?_ ?_
      · refine gf_iconst hG (nI 0) dX4_sees_39 (by decide) ?_
        exact tf_ret hC hrt (by decide) rfl dX4_sees_40
      · refine gf_iconst hG (nI 1) dX4_sees_35 (by decide) ?_
        refine gf_goto hG (tgt := 40) dX4_sees_36 (by decide) ?_
        exact tf_ret hC hrt (by decide) rfl dX4_sees_40
    · refine gf_iconst hG (nI 0) dX4_sees_39 (by decide) ?_
      exact tf_ret hC hrt (by decide) rfl dX4_sees_40
  · refine gf_iconst hG (nI 0) dX4_sees_39 (by decide) ?_
    exact tf_ret hC hrt (by decide) rfl dX4_sees_40
def fX4_must (v1 : Int32) (v2 : Int32) (t : tSt) : Option (Int32 × tSt) :=
  ob (fX4_sees v1 v2 t) (fun r1 t2 =>
  if r1 = 0 then
    if (t2 18 20) < 0 then
      letv (tup t2 18 20 (t2 18 19)) (fun t3 =>
      some (v1, t3)
      )
    else
      letv (tup t2 18 20 (t2 18 20)) (fun t4 =>
      some (v1, t4)
      )
  else
    letv (tup t2 18 19 ((t2 18 19) + (nI 1))) (fun t5 =>
    rv (trd t5 5 (t2 18 19)) (fun x6 =>
    some (x6, t5)
    )
    )
  )
set_option maxHeartbeats 4000000 in
theorem wX4_must (l : Launch) (Z : tZ) (hj : tInj Z) (v1 : Int32) (v2 : Int32) (t : tSt)  : ∀ (r : Int32) (t' : tSt), fX4_must v1 v2 t = some (r, t') → tCt l Z yX4_must cX4_must 3 (some .int) 3 [.ref (Z.2.2.2 18), .int v1, .int v2] t (some (.int r)) t' := by
  refine tmet (ρ := (fun x : Int32 => some (Value.int x))) (av := [.ref (Z.2.2.2 18), .int v1, .int v2]) hj (by decide +kernel) (Nat.le_of_ble_eq_true rfl) (lv_args_cat (List.forall_mem_cons.mpr ⟨rfl, List.forall_mem_cons.mpr ⟨rfl, List.forall_mem_cons.mpr ⟨rfl, fun _ h => absurd h List.not_mem_nil⟩⟩⟩)) ?_
  intro X hln hC hnL hrt
  subst hln
  have hG := hC.1
  show GF X (tM Z X 3 (fun x : Int32 => some (Value.int x))) _ t 0 [(0, .ref (Z.2.2.2 18)), (1, .int v1), (2, .int v2)] []
  unfold fX4_must
  refine gf_aload_n hG dX4_must_0 rfl rfl ?_
  refine gf_iload_n hG dX4_must_1 rfl rfl ?_
  refine gf_iload_n hG dX4_must_2 rfl rfl ?_
  refine tf_callV (f := fX4_sees v1 v2 t) (As := [.int v1, .int v2]) (rest := []) (n := 2) (d' := 2) (st1 := fun r1 => [.int r1]) hC hnL (wX4_sees (gLn X) Z hC.2.2.1 v1 v2 t) dX4_must_3 (lw_V q1609 q1611 qs67 q78 q1612) (by decide +kernel) rfl (by decide) (by decide) (Nat.le_of_ble_eq_true rfl) (fun _ => rfl) (fun r1 t2 => ?_)
  refine gf_if_ne hG (tgt := 33) dX4_must_6 (by decide) ?_ ?_
  · refine gf_aload_n hG dX4_must_9 rfl rfl ?_
    refine gf_aload_n hG dX4_must_10 rfl rfl ?_
    refine tf_get hC 20 dX4_must_11 (by decide) q1307 rfl ?_
    refine gf_if_ge hG (tgt := 24) dX4_must_14 (by decide) ?_ ?_
    · refine gf_aload_n hG dX4_must_17 rfl rfl ?_
      refine tf_get hC 19 dX4_must_18 (by decide) q1306 rfl ?_
      refine gf_goto hG (tgt := 28) dX4_must_21 (by decide) ?_
      refine tf_put hC 20 dX4_must_28 (by decide) q1307 rfl (by first | rfl | decide) (by first | rfl | decide) (fun _ => rfl) ?_
      refine gf_letS (fun t3 => ?_)
      refine gf_iload_n hG dX4_must_31 rfl rfl ?_
      exact tf_ret hC hrt rfl rfl dX4_must_32
    · refine gf_aload_n hG dX4_must_24 rfl rfl ?_
      refine tf_get hC 20 dX4_must_25 (by decide) q1307 rfl ?_
      refine tf_put hC 20 dX4_must_28 (by decide) q1307 rfl (by first | rfl | decide) (by first | rfl | decide) (fun _ => rfl) ?_
      refine gf_letS (fun t4 => ?_)
      refine gf_iload_n hG dX4_must_31 rfl rfl ?_
      exact tf_ret hC hrt rfl rfl dX4_must_32
  · refine gf_aload_n hG dX4_must_33 rfl rfl ?_
    refine tf_get hC 10 dX4_must_34 (by decide) q1297 rfl ?_
    refine gf_aload_n hG dX4_must_37 rfl rfl ?_
    refine gf_dup hG dX4_must_38 rfl ?_
    refine tf_get hC 19 dX4_must_39 (by decide) q1306 rfl ?_
    refine gf_dup_x1 hG dX4_must_42 rfl rfl ?_
    refine gf_iconst hG (nI 1) dX4_must_43 (by decide) ?_
    refine gf_iadd hG dX4_must_44 ?_
    refine tf_put hC 19 dX4_must_45 (by decide) q1306 rfl (by first | rfl | decide) (by first | rfl | decide) (fun _ => rfl) ?_
    refine gf_letS (fun t5 => ?_)
    refine tf_iald hC dX4_must_48 (by decide) (fun x6 => ?_)
    exact tf_ret hC hrt rfl rfl dX4_must_49
def fX4_number (v1 : Int32) (t : tSt) : Option (Int32 × tSt) :=
  ob (fX4_must (nI 32) (nI 32) t) (fun r1 t2 =>
  jn (fun (x3 : Int32) (t4 : tSt) =>
    jn (fun (x6 : Int32) (t7 : tSt) =>
      letv (tup t7 18 19 ((t4 18 19) + x6)) (fun t9 =>
      ob (fX4_must (nI 48) (nI 57) t9) (fun r10 t11 =>
      letv ((r10 - (nI 48))) (fun y12 =>
      ob (fX4_sees (nI 48) (nI 57) t11) (fun r13 t14 =>
      jn (fun (x15 : Int32) (t16 : tSt) =>
        if x3 = 0 then
          some (x15, t16)
        else
          some ((-x15), t16)
        ) (fun (j17 : Int32 → tSt → Option (Int32 × tSt)) =>
        if r13 = 0 then
          j17 y12 t14
        else
          ob (fX4_must (nI 48) (nI 57) t14) (fun r18 t19 =>
          j17 ((((nI 10) * y12) + r18) - (nI 48)) t19
          )
        )
      )
      )
      )
      )
      ) (fun (j8 : Int32 → tSt → Option (Int32 × tSt)) =>
      if x3 = 0 then
        j8 (nI 0) t4
      else
        j8 (nI 1) t4
      )
    ) (fun (j5 : Int32 → tSt → Option (Int32 × tSt)) =>
    jn (fun  (t20 : tSt) =>
      j5 (nI 0) t20
      ) (fun (j21 : tSt → Option (Int32 × tSt)) =>
      if v1 = 0 then
        j21 t2
      else
        ob (fX4_sees (nI 45) (nI 45) t2) (fun r22 t23 =>
        if r22 = 0 then
          j21 t23
        else
          j5 (nI 1) t23
        )
      )
    )
  )
set_option maxHeartbeats 4000000 in
theorem wX4_number (l : Launch) (Z : tZ) (hj : tInj Z) (v1 : Int32) (t : tSt)  : ∀ (r : Int32) (t' : tSt), fX4_number v1 t = some (r, t') → tCt l Z yX4_number cX4_number 4 (some .int) 4 [.ref (Z.2.2.2 18), .int v1] t (some (.int r)) t' := by
  refine tmet (ρ := (fun x : Int32 => some (Value.int x))) (av := [.ref (Z.2.2.2 18), .int v1]) hj (by decide +kernel) (Nat.le_of_ble_eq_true rfl) (lv_args_cat (List.forall_mem_cons.mpr ⟨rfl, List.forall_mem_cons.mpr ⟨rfl, fun _ h => absurd h List.not_mem_nil⟩⟩)) ?_
  intro X hln hC hnL hrt
  subst hln
  have hG := hC.1
  show GF X (tM Z X 4 (fun x : Int32 => some (Value.int x))) _ t 0 [(0, .ref (Z.2.2.2 18)), (1, .int v1)] []
  unfold fX4_number
  refine gf_aload_n hG dX4_number_0 rfl rfl ?_
  refine gf_bipush hG (nI 32) dX4_number_1 (by decide) ?_
  refine gf_bipush hG (nI 32) dX4_number_3 (by decide) ?_
  refine tf_callV (f := fX4_must (nI 32) (nI 32) t) (As := [.int (nI 32), .int (nI 32)]) (rest := []) (n := 2) (d' := 3) (st1 := fun r1 => [.int r1]) hC hnL (wX4_must (gLn X) Z hC.2.2.1 (nI 32) (nI 32) t) dX4_number_5 (lw_V q1613 q1615 qs68 q78 q1616) (by decide +kernel) rfl (by decide) (by decide) (Nat.le_of_ble_eq_true rfl) (fun _ => rfl) (fun r1 t2 => ?_)
  refine gf_pop hG dX4_number_8 rfl ?_
  refine gf_iload_n hG dX4_number_9 rfl rfl ?_
  refine gf_jn (fun j_ => ∀ (x3 : Int32) (t4 : tSt), GF X (tM Z X 4 (fun x : Int32 => some (Value.int x))) (j_ x3 t4) t4 29 [(0, .ref (Z.2.2.2 18))] [.int x3]) (fun x3 t4 => ?_) (fun j5 hj5 => ?_)
  · refine gf_istore_n hG dX4_number_29 rfl (Nat.le_of_ble_eq_true rfl) (lv' := [(0, _), (2, _)]) rfl ?_
    refine gf_aload_n hG dX4_number_30 rfl rfl ?_
    refine gf_dup hG dX4_number_31 rfl ?_
    refine tf_get hC 19 dX4_number_32 (by decide) q1306 rfl ?_
    refine gf_iload_n hG dX4_number_35 rfl rfl ?_
    refine gf_jn (fun j_ => ∀ (x6 : Int32) (t7 : tSt), GF X (tM Z X 4 (fun x : Int32 => some (Value.int x))) (j_ x6 t7) t7 44 [(0, .ref (Z.2.2.2 18)), (2, .int x3)] [.int x6, .int (t4 18 19), .ref (Z.2.2.2 18)]) (fun x6 t7 => ?_) (fun j8 hj8 => ?_)
    · refine gf_iadd hG dX4_number_44 ?_
      refine tf_put hC 19 dX4_number_45 (by decide) q1306 rfl (by first | rfl | decide) (by first | rfl | decide) (fun _ => rfl) ?_
      refine gf_letS (fun t9 => ?_)
      refine gf_aload_n hG dX4_number_48 rfl rfl ?_
      refine gf_bipush hG (nI 48) dX4_number_49 (by decide) ?_
      refine gf_bipush hG (nI 57) dX4_number_51 (by decide) ?_
      refine tf_callV (f := fX4_must (nI 48) (nI 57) t9) (As := [.int (nI 48), .int (nI 57)]) (rest := []) (n := 2) (d' := 3) (st1 := fun r10 => [.int r10]) hC hnL (wX4_must (gLn X) Z hC.2.2.1 (nI 48) (nI 57) t9) dX4_number_53 (lw_V q1613 q1615 qs68 q78 q1616) (by decide +kernel) rfl (by decide) (by decide) (Nat.le_of_ble_eq_true rfl) (fun _ => rfl) (fun r10 t11 => ?_)
      refine gf_bipush hG (nI 48) dX4_number_56 (by decide) ?_
      refine gf_isub hG dX4_number_58 ?_
      refine gf_letv (fun y12 hy12 => ?_)
      refine gf_istore_n hG dX4_number_59 rfl (Nat.le_of_ble_eq_true rfl) (lv' := [(0, _), (2, _), (3, _)]) rfl ?_
      refine gf_aload_n hG dX4_number_60 rfl rfl ?_
      refine gf_bipush hG (nI 48) dX4_number_61 (by decide) ?_
      refine gf_bipush hG (nI 57) dX4_number_63 (by decide) ?_
      refine tf_callV (f := fX4_sees (nI 48) (nI 57) t11) (As := [.int (nI 48), .int (nI 57)]) (rest := []) (n := 2) (d' := 2) (st1 := fun r13 => [.int r13]) hC hnL (wX4_sees (gLn X) Z hC.2.2.1 (nI 48) (nI 57) t11) dX4_number_65 (lw_V q1609 q1611 qs67 q78 q1612) (by decide +kernel) rfl (by decide) (by decide) (Nat.le_of_ble_eq_true rfl) (fun _ => rfl) (fun r13 t14 => ?_)
      refine gf_jn (fun j_ => ∀ (x15 : Int32) (t16 : tSt), GF X (tM Z X 4 (fun x : Int32 => some (Value.int x))) (j_ x15 t16) t16 91 [(2, .int x3)] [.int x15]) (fun x15 t16 => ?_) (fun j17 hj17 => ?_)
      · refine gf_istore_n hG dX4_number_91 rfl (Nat.le_of_ble_eq_true rfl) (lv' := [(2, _), (3, _)]) rfl ?_
        refine gf_iload_n hG dX4_number_92 rfl rfl ?_
        refine gf_if_eq hG (tgt := 101) dX4_number_93 (by decide) ?_ ?_
        · refine gf_iload_n hG dX4_number_101 rfl rfl ?_
          exact tf_ret hC hrt rfl rfl dX4_number_102
        · refine gf_iload_n hG dX4_number_96 rfl rfl ?_
          refine gf_ineg hG dX4_number_97 ?_
          refine gf_goto hG (tgt := 102) dX4_number_98 (by decide) ?_
          exact tf_ret hC hrt rfl rfl dX4_number_102
      · refine gf_if_eq hG (tgt := 90) dX4_number_68 (by decide) ?_ ?_
        · refine gf_iload_n hG dX4_number_90 rfl rfl ?_
          refine gf_sub [1] rfl ?_
          exact hj17 y12 t14
        · refine gf_bipush hG (nI 10) dX4_number_71 (by decide) ?_
          refine gf_iload_n hG dX4_number_73 rfl rfl ?_
          refine gf_imul hG dX4_number_74 ?_
          refine gf_aload_n hG dX4_number_75 rfl rfl ?_
          refine gf_bipush hG (nI 48) dX4_number_76 (by decide) ?_
          refine gf_bipush hG (nI 57) dX4_number_78 (by decide) ?_
          refine tf_callV (f := fX4_must (nI 48) (nI 57) t14) (As := [.int (nI 48), .int (nI 57)]) (rest := [.int ((nI 10) * y12)]) (n := 2) (d' := 3) (st1 := fun r18 => [.int r18, .int ((nI 10) * y12)]) hC hnL (wX4_must (gLn X) Z hC.2.2.1 (nI 48) (nI 57) t14) dX4_number_80 (lw_V q1613 q1615 qs68 q78 q1616) (by decide +kernel) rfl (by decide) (by decide) (Nat.le_of_ble_eq_true rfl) (fun _ => rfl) (fun r18 t19 => ?_)
          refine gf_iadd hG dX4_number_83 ?_
          refine gf_bipush hG (nI 48) dX4_number_84 (by decide) ?_
          refine gf_isub hG dX4_number_86 ?_
          refine gf_goto hG (tgt := 91) dX4_number_87 (by decide) ?_
          refine gf_sub [1] rfl ?_
          exact hj17 ((((nI 10) * y12) + r18) - (nI 48)) t19
    · refine gf_if_eq hG (tgt := 43) dX4_number_36 (by decide) ?_ ?_
      · refine gf_iconst hG (nI 0) dX4_number_43 (by decide) ?_
        exact hj8 (nI 0) t4
      · refine gf_iconst hG (nI 1) dX4_number_39 (by decide) ?_
        refine gf_goto hG (tgt := 44) dX4_number_40 (by decide) ?_
        exact hj8 (nI 1) t4
  · refine gf_jn (fun j_ => ∀  (t20 : tSt), GF X (tM Z X 4 (fun x : Int32 => some (Value.int x))) (j_ t20) t20 28 [(0, .ref (Z.2.2.2 18))] []) (fun t20 => ?_) (fun j21 hj21 => ?_)
    · refine gf_iconst hG (nI 0) dX4_number_28 (by decide) ?_
      exact hj5 (nI 0) t20
    · refine gf_if_eq hG (tgt := 28) dX4_number_10 (by decide) ?_ ?_
      · refine gf_sub [0] rfl ?_
        exact hj21 t2
      · refine gf_aload_n hG dX4_number_13 rfl rfl ?_
        refine gf_bipush hG (nI 45) dX4_number_14 (by decide) ?_
        refine gf_bipush hG (nI 45) dX4_number_16 (by decide) ?_
        refine tf_callV (f := fX4_sees (nI 45) (nI 45) t2) (As := [.int (nI 45), .int (nI 45)]) (rest := []) (n := 2) (d' := 2) (st1 := fun r22 => [.int r22]) hC hnL (wX4_sees (gLn X) Z hC.2.2.1 (nI 45) (nI 45) t2) dX4_number_18 (lw_V q1609 q1611 qs67 q78 q1612) (by decide +kernel) rfl (by decide) (by decide) (Nat.le_of_ble_eq_true rfl) (fun _ => rfl) (fun r22 t23 => ?_)
        refine gf_if_eq hG (tgt := 28) dX4_number_21 (by decide) ?_ ?_
        · refine gf_sub [0] rfl ?_
          exact hj21 t23
        · refine gf_iconst hG (nI 1) dX4_number_24 (by decide) ?_
          refine gf_goto hG (tgt := 29) dX4_number_25 (by decide) ?_
          refine gf_sub [0] rfl ?_
          exact hj5 (nI 1) t23
def fX4_line_L74 (v1 : Int32) (v2 : Int32) (kx : tSt → Option (Int32 × tSt)) : Nat → Int32 → tSt → Option (Int32 × tSt)
  | 0, _, _ => none
  | k + 1, v3, t =>
    if v3 < v2 then
      jn (fun (x9 : Int32) (t10 : tSt) =>
        ob (fX4_number x9 t10) (fun r12 t13 =>
        rv (twr t13 11 v3 r12) (fun t14 =>
        letv (v3 + (nI 1)) (fun y15 =>
        fX4_line_L74 v1 v2 kx k y15 t14
        )
        )
        )
        ) (fun (j11 : Int32 → tSt → Option (Int32 × tSt)) =>
        jn (fun  (t16 : tSt) =>
          j11 (nI 0) t16
          ) (fun (j17 : tSt → Option (Int32 × tSt)) =>
          if v1 = (nI 109) then
            if v3 = (nI 1) then
              j11 (nI 1) t
            else
              j17 t
          else
            j17 t
          )
        )
    else
      kx t
set_option maxHeartbeats 4000000 in
theorem gfX4_line_L74 {X : gCx} {Z : tZ} (hC : tOk X Z RX4 cX4_line 5) (hnL : gLoc X = 4) (hrt : gRet X = (some .int)) (v1 : Int32) (v2 : Int32)  (kx : tSt → Option (Int32 × tSt)) (hkx : ∀  (t : tSt), GF X (tM Z X 4 (fun x : Int32 => some (Value.int x))) (kx t) t 111 [(1, .int v1)] []) : ∀ (k : Nat) (v3 : Int32) (t : tSt), GF X (tM Z X 4 (fun x : Int32 => some (Value.int x))) (fX4_line_L74 v1 v2 kx k v3 t) t 74 [(0, .ref (Z.2.2.2 18)), (1, .int v1), (2, .int v2), (3, .int v3)] [] := by
  have hG := hC.1
  intro k
  induction k with
  | zero => intro v3 t; exact gf_none
  | succ k ih =>
    intro v3 t
    rw [fX4_line_L74]
    refine gf_iload_n hG dX4_line_74 rfl rfl ?_
    refine gf_iload_n hG dX4_line_75 rfl rfl ?_
    refine gf_icmp_ge hG (tgt := 111) dX4_line_76 (by decide) ?_ ?_
    · refine gf_aload_n hG dX4_line_79 rfl rfl ?_
      refine tf_get hC 21 dX4_line_80 (by decide) q1308 rfl ?_
      refine gf_iload_n hG dX4_line_83 rfl rfl ?_
      refine gf_aload_n hG dX4_line_84 rfl rfl ?_
      refine gf_iload_n hG dX4_line_85 rfl rfl ?_
      refine gf_bipush hG (nI 109) dX4_line_86 (by decide) ?_
      refine gf_jn (fun j_ => ∀ (x9 : Int32) (t10 : tSt), GF X (tM Z X 4 (fun x : Int32 => some (Value.int x))) (j_ x9 t10) t10 101 [(0, .ref (Z.2.2.2 18)), (1, .int v1), (2, .int v2), (3, .int v3)] [.int x9, .ref (Z.2.2.2 18), .int v3, .ref (Z.2.2.2 11)]) (fun x9 t10 => ?_) (fun j11 hj11 => ?_)
      · refine tf_callV (f := fX4_number x9 t10) (As := [.int x9]) (rest := [.int v3, .ref (Z.2.2.2 11)]) (n := 1) (d' := 4) (st1 := fun r12 => [.int r12, .int v3, .ref (Z.2.2.2 11)]) hC hnL (wX4_number (gLn X) Z hC.2.2.1 x9 t10) dX4_line_101 (lw_V q1617 q1619 qs69 q78 q1620) (by decide +kernel) rfl (by decide) (by decide) (Nat.le_of_ble_eq_true rfl) (fun _ => rfl) (fun r12 t13 => ?_)
        refine tf_iast hC dX4_line_104 (by decide) (fun t14 => ?_)
        refine gf_letiinc hG (c := (nI 1)) (lv' := fun y15 => [(0, .ref (Z.2.2.2 18)), (1, .int v1), (2, .int v2), (3, .int y15)]) dX4_line_105 rfl (by decide) (Nat.le_of_ble_eq_true rfl) (fun _ => rfl) (fun y15 => ?_)
        refine gf_goto hG (tgt := 74) dX4_line_108 (by decide) ?_
        exact ih y15 t14
      · refine gf_jn (fun j_ => ∀  (t16 : tSt), GF X (tM Z X 4 (fun x : Int32 => some (Value.int x))) (j_ t16) t16 100 [(0, .ref (Z.2.2.2 18)), (1, .int v1), (2, .int v2), (3, .int v3)] [.ref (Z.2.2.2 18), .int v3, .ref (Z.2.2.2 11)]) (fun t16 => ?_) (fun j17 hj17 => ?_)
        · refine gf_iconst hG (nI 0) dX4_line_100 (by decide) ?_
          exact hj11 (nI 0) t16
        · refine gf_icmp_ne hG (tgt := 100) dX4_line_88 (by decide) ?_ ?_
          · refine gf_iload_n hG dX4_line_91 rfl rfl ?_
            refine gf_iconst hG (nI 1) dX4_line_92 (by decide) ?_
            refine gf_icmp_ne hG (tgt := 100) dX4_line_93 (by decide) ?_ ?_
            · refine gf_iconst hG (nI 1) dX4_line_96 (by decide) ?_
              refine gf_goto hG (tgt := 101) dX4_line_97 (by decide) ?_
              exact hj11 (nI 1) t
            · exact hj17 t
          · exact hj17 t
    · refine gf_sub [1] rfl ?_
      exact hkx t
def fX4_line  (t : tSt) : Option (Int32 × tSt) :=
  ob (fX4_sees (nI 109) (nI 109) t) (fun r1 t2 =>
  jn (fun (x3 : Int32) (t4 : tSt) =>
    jn (fun (x6 : Int32) (t7 : tSt) =>
      fX4_line_L74 x3 x6 (fun  (t18 : tSt) =>
        some (x3, t18)
        ) FU (nI 0) t7
      ) (fun (j8 : Int32 → tSt → Option (Int32 × tSt)) =>
      if x3 = (nI 97) then
        j8 (nI 5) t4
      else
        if x3 = (nI 109) then
          j8 (nI 2) t4
        else
          j8 (nI 1) t4
      )
    ) (fun (j5 : Int32 → tSt → Option (Int32 × tSt)) =>
    jn (fun  (t19 : tSt) =>
      letv (tup t19 18 19 ((t19 18 19) + (nI 1))) (fun t21 =>
      rv (trd t21 5 (t19 18 19)) (fun x22 =>
      j5 x22 t21
      )
      )
      ) (fun (j20 : tSt → Option (Int32 × tSt)) =>
      if r1 = 0 then
        ob (fX4_sees (nI 115) (nI 115) t2) (fun r23 t24 =>
        if r23 = 0 then
          ob (fX4_must (nI 97) (nI 97) t24) (fun r25 t26 =>
          j5 r25 t26
          )
        else
          j20 t24
        )
      else
        j20 t2
      )
    )
  )
set_option maxHeartbeats 4000000 in
theorem wX4_line (l : Launch) (Z : tZ) (hj : tInj Z)  (t : tSt)  : ∀ (r : Int32) (t' : tSt), fX4_line t = some (r, t') → tCt l Z yX4_line cX4_line 4 (some .int) 5 [.ref (Z.2.2.2 18)] t (some (.int r)) t' := by
  refine tmet (ρ := (fun x : Int32 => some (Value.int x))) (av := [.ref (Z.2.2.2 18)]) hj (by decide +kernel) (Nat.le_of_ble_eq_true rfl) (lv_args_cat (List.forall_mem_cons.mpr ⟨rfl, fun _ h => absurd h List.not_mem_nil⟩)) ?_
  intro X hln hC hnL hrt
  subst hln
  have hG := hC.1
  show GF X (tM Z X 4 (fun x : Int32 => some (Value.int x))) _ t 0 [(0, .ref (Z.2.2.2 18))] []
  unfold fX4_line
  refine gf_aload_n hG dX4_line_0 rfl rfl ?_
  refine gf_bipush hG (nI 109) dX4_line_1 (by decide) ?_
  refine gf_bipush hG (nI 109) dX4_line_3 (by decide) ?_
  refine tf_callV (f := fX4_sees (nI 109) (nI 109) t) (As := [.int (nI 109), .int (nI 109)]) (rest := []) (n := 2) (d' := 2) (st1 := fun r1 => [.int r1]) hC hnL (wX4_sees (gLn X) Z hC.2.2.1 (nI 109) (nI 109) t) dX4_line_5 (lw_V q1609 q1611 qs67 q78 q1612) (by decide +kernel) rfl (by decide) (by decide) (Nat.le_of_ble_eq_true rfl) (fun _ => rfl) (fun r1 t2 => ?_)
  refine gf_jn (fun j_ => ∀ (x3 : Int32) (t4 : tSt), GF X (tM Z X 4 (fun x : Int32 => some (Value.int x))) (j_ x3 t4) t4 49 [(0, .ref (Z.2.2.2 18))] [.int x3]) (fun x3 t4 => ?_) (fun j5 hj5 => ?_)
  · refine gf_istore_n hG dX4_line_49 rfl (Nat.le_of_ble_eq_true rfl) (lv' := [(0, _), (1, _)]) rfl ?_
    refine gf_iload_n hG dX4_line_50 rfl rfl ?_
    refine gf_bipush hG (nI 97) dX4_line_51 (by decide) ?_
    refine gf_jn (fun j_ => ∀ (x6 : Int32) (t7 : tSt), GF X (tM Z X 4 (fun x : Int32 => some (Value.int x))) (j_ x6 t7) t7 71 [(0, .ref (Z.2.2.2 18)), (1, .int x3)] [.int x6]) (fun x6 t7 => ?_) (fun j8 hj8 => ?_)
    · refine gf_istore_n hG dX4_line_71 rfl (Nat.le_of_ble_eq_true rfl) (lv' := [(0, _), (1, _), (2, _)]) rfl ?_
      refine gf_iconst hG (nI 0) dX4_line_72 (by decide) ?_
      refine gf_istore_n hG dX4_line_73 rfl (Nat.le_of_ble_eq_true rfl) (lv' := [(0, _), (1, _), (2, _), (3, _)]) rfl ?_
      refine gfX4_line_L74 hC hnL hrt x3 x6 _ (fun t18 => ?_) FU (nI 0) t7
      refine gf_iload_n hG dX4_line_111 rfl rfl ?_
      exact tf_ret hC hrt rfl rfl dX4_line_112
    · refine gf_icmp_ne hG (tgt := 60) dX4_line_53 (by decide) ?_ ?_
      · refine gf_iconst hG (nI 5) dX4_line_56 (by decide) ?_
        refine gf_goto hG (tgt := 71) dX4_line_57 (by decide) ?_
        exact hj8 (nI 5) t4
      · refine gf_iload_n hG dX4_line_60 rfl rfl ?_
        refine gf_bipush hG (nI 109) dX4_line_61 (by decide) ?_
        refine gf_icmp_ne hG (tgt := 70) dX4_line_63 (by decide) ?_ ?_
        · refine gf_iconst hG (nI 2) dX4_line_66 (by decide) ?_
          refine gf_goto hG (tgt := 71) dX4_line_67 (by decide) ?_
          exact hj8 (nI 2) t4
        · refine gf_iconst hG (nI 1) dX4_line_70 (by decide) ?_
          exact hj8 (nI 1) t4
  · refine gf_jn (fun j_ => ∀  (t19 : tSt), GF X (tM Z X 4 (fun x : Int32 => some (Value.int x))) (j_ t19) t19 22 [(0, .ref (Z.2.2.2 18))] []) (fun t19 => ?_) (fun j20 hj20 => ?_)
    · refine gf_aload_n hG dX4_line_22 rfl rfl ?_
      refine tf_get hC 10 dX4_line_23 (by decide) q1297 rfl ?_
      refine gf_aload_n hG dX4_line_26 rfl rfl ?_
      refine gf_dup hG dX4_line_27 rfl ?_
      refine tf_get hC 19 dX4_line_28 (by decide) q1306 rfl ?_
      refine gf_dup_x1 hG dX4_line_31 rfl rfl ?_
      refine gf_iconst hG (nI 1) dX4_line_32 (by decide) ?_
      refine gf_iadd hG dX4_line_33 ?_
      refine tf_put hC 19 dX4_line_34 (by decide) q1306 rfl (by first | rfl | decide) (by first | rfl | decide) (fun _ => rfl) ?_
      refine gf_letS (fun t21 => ?_)
      refine tf_iald hC dX4_line_37 (by decide) (fun x22 => ?_)
      refine gf_goto hG (tgt := 49) dX4_line_38 (by decide) ?_
      exact hj5 x22 t21
    · refine gf_if_ne hG (tgt := 22) dX4_line_8 (by decide) ?_ ?_
      · refine gf_aload_n hG dX4_line_11 rfl rfl ?_
        refine gf_bipush hG (nI 115) dX4_line_12 (by decide) ?_
        refine gf_bipush hG (nI 115) dX4_line_14 (by decide) ?_
        refine tf_callV (f := fX4_sees (nI 115) (nI 115) t2) (As := [.int (nI 115), .int (nI 115)]) (rest := []) (n := 2) (d' := 2) (st1 := fun r23 => [.int r23]) hC hnL (wX4_sees (gLn X) Z hC.2.2.1 (nI 115) (nI 115) t2) dX4_line_16 (lw_V q1609 q1611 qs67 q78 q1612) (by decide +kernel) rfl (by decide) (by decide) (Nat.le_of_ble_eq_true rfl) (fun _ => rfl) (fun r23 t24 => ?_)
        refine gf_if_eq hG (tgt := 41) dX4_line_19 (by decide) ?_ ?_
        · refine gf_aload_n hG dX4_line_41 rfl rfl ?_
          refine gf_bipush hG (nI 97) dX4_line_42 (by decide) ?_
          refine gf_bipush hG (nI 97) dX4_line_44 (by decide) ?_
          refine tf_callV (f := fX4_must (nI 97) (nI 97) t24) (As := [.int (nI 97), .int (nI 97)]) (rest := []) (n := 2) (d' := 3) (st1 := fun r25 => [.int r25]) hC hnL (wX4_must (gLn X) Z hC.2.2.1 (nI 97) (nI 97) t24) dX4_line_46 (lw_V q1613 q1615 qs68 q78 q1616) (by decide +kernel) rfl (by decide) (by decide) (Nat.le_of_ble_eq_true rfl) (fun _ => rfl) (fun r25 t26 => ?_)
          exact hj5 r25 t26
        · exact hj20 t24
      · exact hj20 t2
def fX4_isForm_L15  (kx : tSt → Option (Int32 × tSt)) : Nat → tSt → Option (Int32 × tSt)
  | 0, _ => none
  | k + 1, t =>
    if (t 18 20) < 0 then
      if (t 18 19) < (t 18 11) then
        ob (fX4_must (nI 59) (nI 59) t) (fun r5 t6 =>
        ob (fX4_line t6) (fun r7 t8 =>
        fX4_isForm_L15 kx k t8
        )
        )
      else
        kx t
    else
      kx t
set_option maxHeartbeats 4000000 in
theorem gfX4_isForm_L15 {X : gCx} {Z : tZ} (hC : tOk X Z RX4 cX4_isForm 6) (hnL : gLoc X = 1) (hrt : gRet X = (some .boolean))   (kx : tSt → Option (Int32 × tSt)) (hkx : ∀  (t : tSt), GF X (tM Z X 1 (fun x : Int32 => some (Value.int x))) (kx t) t 50 [(0, .ref (Z.2.2.2 18))] []) : ∀ (k : Nat)  (t : tSt), GF X (tM Z X 1 (fun x : Int32 => some (Value.int x))) (fX4_isForm_L15 kx k t) t 15 [(0, .ref (Z.2.2.2 18))] [] := by
  have hG := hC.1
  intro k
  induction k with
  | zero => intro t; exact gf_none
  | succ k ih =>
    intro t
    rw [fX4_isForm_L15]
    refine gf_aload_n hG dX4_isForm_15 rfl rfl ?_
    refine tf_get hC 20 dX4_isForm_16 (by decide) q1307 rfl ?_
    refine gf_if_ge hG (tgt := 50) dX4_isForm_19 (by decide) ?_ ?_
    · refine gf_aload_n hG dX4_isForm_22 rfl rfl ?_
      refine tf_get hC 19 dX4_isForm_23 (by decide) q1306 rfl ?_
      refine gf_aload_n hG dX4_isForm_26 rfl rfl ?_
      refine tf_get hC 11 dX4_isForm_27 (by decide) q1298 rfl ?_
      refine gf_icmp_ge hG (tgt := 50) dX4_isForm_30 (by decide) ?_ ?_
      · refine gf_aload_n hG dX4_isForm_33 rfl rfl ?_
        refine gf_bipush hG (nI 59) dX4_isForm_34 (by decide) ?_
        refine gf_bipush hG (nI 59) dX4_isForm_36 (by decide) ?_
        refine tf_callV (f := fX4_must (nI 59) (nI 59) t) (As := [.int (nI 59), .int (nI 59)]) (rest := []) (n := 2) (d' := 3) (st1 := fun r5 => [.int r5]) hC hnL (wX4_must (gLn X) Z hC.2.2.1 (nI 59) (nI 59) t) dX4_isForm_38 (lw_V q1613 q1615 qs68 q78 q1616) (by decide +kernel) rfl (by decide) (by decide) (Nat.le_of_ble_eq_true rfl) (fun _ => rfl) (fun r5 t6 => ?_)
        refine gf_pop hG dX4_isForm_41 rfl ?_
        refine gf_aload_n hG dX4_isForm_42 rfl rfl ?_
        refine tf_callV (f := fX4_line t6) (As := []) (rest := []) (n := 0) (d' := 5) (st1 := fun r7 => [.int r7]) hC hnL (wX4_line (gLn X) Z hC.2.2.1 t6) dX4_isForm_43 (lw_V q1605 q1607 qs66 q78 q1608) (by decide +kernel) rfl (by decide) (by decide) (Nat.le_of_ble_eq_true rfl) (fun _ => rfl) (fun r7 t8 => ?_)
        refine gf_pop hG dX4_isForm_46 rfl ?_
        refine gf_goto hG (tgt := 15) dX4_isForm_47 (by decide) ?_
        exact ih t8
      · exact hkx t
    · exact hkx t
def fX4_isForm  (t : tSt) : Option (Int32 × tSt) :=
  letv (tup t 18 19 (nI 0)) (fun t1 =>
  letv (tup t1 18 20 (-1 : Int32)) (fun t2 =>
  ob (fX4_line t2) (fun r3 t4 =>
  fX4_isForm_L15 (fun  (t9 : tSt) =>
    if (t9 18 20) < 0 then
      some ((nI 1), t9)
    else
      some ((nI 0), t9)
    ) FU t4
  )
  )
  )
set_option maxHeartbeats 4000000 in
theorem wX4_isForm (l : Launch) (Z : tZ) (hj : tInj Z)  (t : tSt)  : ∀ (r : Int32) (t' : tSt), fX4_isForm t = some (r, t') → tCt l Z yX4_isForm cX4_isForm 1 (some .boolean) 6 [.ref (Z.2.2.2 18)] t (some (.int r)) t' := by
  refine tmet (ρ := (fun x : Int32 => some (Value.int x))) (av := [.ref (Z.2.2.2 18)]) hj (by decide +kernel) (Nat.le_of_ble_eq_true rfl) (lv_args_cat (List.forall_mem_cons.mpr ⟨rfl, fun _ h => absurd h List.not_mem_nil⟩)) ?_
  intro X hln hC hnL hrt
  subst hln
  have hG := hC.1
  show GF X (tM Z X 1 (fun x : Int32 => some (Value.int x))) _ t 0 [(0, .ref (Z.2.2.2 18))] []
  unfold fX4_isForm
  refine gf_aload_n hG dX4_isForm_0 rfl rfl ?_
  refine gf_iconst hG (nI 0) dX4_isForm_1 (by decide) ?_
  refine tf_put hC 19 dX4_isForm_2 (by decide) q1306 rfl (by first | rfl | decide) (by first | rfl | decide) (fun _ => rfl) ?_
  refine gf_letS (fun t1 => ?_)
  refine gf_aload_n hG dX4_isForm_5 rfl rfl ?_
  refine gf_iconst hG (-1 : Int32) dX4_isForm_6 (by decide) ?_
  refine tf_put hC 20 dX4_isForm_7 (by decide) q1307 rfl (by first | rfl | decide) (by first | rfl | decide) (fun _ => rfl) ?_
  refine gf_letS (fun t2 => ?_)
  refine gf_aload_n hG dX4_isForm_10 rfl rfl ?_
  refine tf_callV (f := fX4_line t2) (As := []) (rest := []) (n := 0) (d' := 5) (st1 := fun r3 => [.int r3]) hC hnL (wX4_line (gLn X) Z hC.2.2.1 t2) dX4_isForm_11 (lw_V q1605 q1607 qs66 q78 q1608) (by decide +kernel) rfl (by decide) (by decide) (Nat.le_of_ble_eq_true rfl) (fun _ => rfl) (fun r3 t4 => ?_)
  refine gf_pop hG dX4_isForm_14 rfl ?_
  refine gfX4_isForm_L15 hC hnL hrt  _ (fun t9 => ?_) FU t4
  refine gf_aload_n hG dX4_isForm_50 rfl rfl ?_
  refine tf_get hC 20 dX4_isForm_51 (by decide) q1307 rfl ?_
  refine gf_if_ge hG (tgt := 61) dX4_isForm_54 (by decide) ?_ ?_
  · refine gf_iconst hG (nI 1) dX4_isForm_57 (by decide) ?_
    refine gf_goto hG (tgt := 62) dX4_isForm_58 (by decide) ?_
    exact tf_ret hC hrt (by decide) rfl dX4_isForm_62
  · refine gf_iconst hG (nI 0) dX4_isForm_61 (by decide) ?_
    exact tf_ret hC hrt (by decide) rfl dX4_isForm_62
def fX4_script_L41  (kx : Int32 → Int32 → tSt → Option (Int32 × tSt)) : Nat → Int32 → Int32 → tSt → Option (Int32 × tSt)
  | 0, _, _, _ => none
  | k + 1, v1, v2, t =>
    if v2 = 0 then
      kx v1 v2 t
    else
      if (t 18 19) < (t 18 11) then
        jn (fun (x7 : Int32) (t8 : tSt) =>
          letv (tup t8 18 19 ((t 18 19) + x7)) (fun t10 =>
          ob (fX4_line t10) (fun r11 t12 =>
          ob (fX4_does r11 t12) (fun r13 t14 =>
          letv (v1 + (nI 1)) (fun y15 =>
          fX4_script_L41 kx k y15 r13 t14
          )
          )
          )
          )
          ) (fun (j9 : Int32 → tSt → Option (Int32 × tSt)) =>
          if 0 < v1 then
            j9 (nI 1) t
          else
            j9 (nI 0) t
          )
      else
        kx v1 v2 t
set_option maxHeartbeats 4000000 in
theorem gfX4_script_L41 {X : gCx} {Z : tZ} (hC : tOk X Z RX4 cX4_script 48) (hnL : gLoc X = 3) (hrt : gRet X = (some .int))   (kx : Int32 → Int32 → tSt → Option (Int32 × tSt)) (hkx : ∀ (v1 : Int32) (v2 : Int32) (t : tSt), GF X (tM Z X 3 (fun x : Int32 => some (Value.int x))) (kx v1 v2 t) t 89 [(0, .ref (Z.2.2.2 18)), (1, .int v1), (2, .int v2)] []) : ∀ (k : Nat) (v1 : Int32) (v2 : Int32) (t : tSt), GF X (tM Z X 3 (fun x : Int32 => some (Value.int x))) (fX4_script_L41 kx k v1 v2 t) t 41 [(0, .ref (Z.2.2.2 18)), (1, .int v1), (2, .int v2)] [] := by
  have hG := hC.1
  intro k
  induction k with
  | zero => intro v1 v2 t; exact gf_none
  | succ k ih =>
    intro v1 v2 t
    rw [fX4_script_L41]
    refine gf_iload_n hG dX4_script_41 rfl rfl ?_
    refine gf_if_eq hG (tgt := 89) dX4_script_42 (by decide) ?_ ?_
    · exact hkx v1 v2 t
    · refine gf_aload_n hG dX4_script_45 rfl rfl ?_
      refine tf_get hC 19 dX4_script_46 (by decide) q1306 rfl ?_
      refine gf_aload_n hG dX4_script_49 rfl rfl ?_
      refine tf_get hC 11 dX4_script_50 (by decide) q1298 rfl ?_
      refine gf_icmp_ge hG (tgt := 89) dX4_script_53 (by decide) ?_ ?_
      · refine gf_aload_n hG dX4_script_56 rfl rfl ?_
        refine gf_dup hG dX4_script_57 rfl ?_
        refine tf_get hC 19 dX4_script_58 (by decide) q1306 rfl ?_
        refine gf_iload_n hG dX4_script_61 rfl rfl ?_
        refine gf_jn (fun j_ => ∀ (x7 : Int32) (t8 : tSt), GF X (tM Z X 3 (fun x : Int32 => some (Value.int x))) (j_ x7 t8) t8 70 [(0, .ref (Z.2.2.2 18)), (1, .int v1)] [.int x7, .int (t 18 19), .ref (Z.2.2.2 18)]) (fun x7 t8 => ?_) (fun j9 hj9 => ?_)
        · refine gf_iadd hG dX4_script_70 ?_
          refine tf_put hC 19 dX4_script_71 (by decide) q1306 rfl (by first | rfl | decide) (by first | rfl | decide) (fun _ => rfl) ?_
          refine gf_letS (fun t10 => ?_)
          refine gf_aload_n hG dX4_script_74 rfl rfl ?_
          refine gf_aload_n hG dX4_script_75 rfl rfl ?_
          refine tf_callV (f := fX4_line t10) (As := []) (rest := [.ref (Z.2.2.2 18)]) (n := 0) (d' := 5) (st1 := fun r11 => [.int r11, .ref (Z.2.2.2 18)]) hC hnL (wX4_line (gLn X) Z hC.2.2.1 t10) dX4_script_76 (lw_V q1605 q1607 qs66 q78 q1608) (by decide +kernel) rfl (by decide) (by decide) (Nat.le_of_ble_eq_true rfl) (fun _ => rfl) (fun r11 t12 => ?_)
          refine tf_callV (f := fX4_does r11 t12) (As := [.int r11]) (rest := []) (n := 1) (d' := 47) (st1 := fun r13 => [.int r13]) hC hnL (wX4_does (gLn X) Z hC.2.2.1 r11 t12) dX4_script_79 (lw_V q1621 q1623 qs70 q78 q1624) (by decide +kernel) rfl (by decide) (by decide) (Nat.le_of_ble_eq_true rfl) (fun _ => rfl) (fun r13 t14 => ?_)
          refine gf_istore_n hG dX4_script_82 rfl (Nat.le_of_ble_eq_true rfl) (lv' := [(0, _), (1, _), (2, _)]) rfl ?_
          refine gf_letiinc hG (c := (nI 1)) (lv' := fun y15 => [(0, .ref (Z.2.2.2 18)), (1, .int y15), (2, .int r13)]) dX4_script_83 rfl (by decide) (Nat.le_of_ble_eq_true rfl) (fun _ => rfl) (fun y15 => ?_)
          refine gf_goto hG (tgt := 41) dX4_script_86 (by decide) ?_
          exact ih y15 r13 t14
        · refine gf_if_le hG (tgt := 69) dX4_script_62 (by decide) ?_ ?_
          · refine gf_iconst hG (nI 1) dX4_script_65 (by decide) ?_
            refine gf_goto hG (tgt := 70) dX4_script_66 (by decide) ?_
            refine gf_sub [0, 1] rfl ?_
            exact hj9 (nI 1) t
          · refine gf_iconst hG (nI 0) dX4_script_69 (by decide) ?_
            refine gf_sub [0, 1] rfl ?_
            exact hj9 (nI 0) t
      · exact hkx v1 v2 t
def fX4_script  (t : tSt) : Option (Int32 × tSt) :=
  ob (fX4_isForm t) (fun r1 t2 =>
  if r1 = 0 then
    letv (tup t2 18 11 (nI 0)) (fun t3 =>
    some (((-1000 : Int32) - (t3 18 20)), t3)
    )
  else
    ob (fX4_take (0) (2) t2) (fun r4 t5 =>
    letv (tup t5 18 19 (nI 0)) (fun t6 =>
    fX4_script_L41 (fun (v1_16 : Int32) (v2_17 : Int32) (t18 : tSt) =>
      letv (tup t18 18 11 (nI 0)) (fun t19 =>
      if v2_17 = 0 then
        ob (fX4_take (2) (0) t19) (fun r20 t21 =>
        some (((-2000 : Int32) - (v1_16 - (nI 1))), t21)
        )
      else
        some (v1_16, t19)
      )
      ) FU (nI 0) (nI 1) t6
    )
    )
  )
set_option maxHeartbeats 4000000 in
theorem wX4_script (l : Launch) (Z : tZ) (hj : tInj Z)  (t : tSt)  : ∀ (r : Int32) (t' : tSt), fX4_script t = some (r, t') → tCt l Z yX4_script cX4_script 3 (some .int) 48 [.ref (Z.2.2.2 18)] t (some (.int r)) t' := by
  refine tmet (ρ := (fun x : Int32 => some (Value.int x))) (av := [.ref (Z.2.2.2 18)]) hj (by decide +kernel) (Nat.le_of_ble_eq_true rfl) (lv_args_cat (List.forall_mem_cons.mpr ⟨rfl, fun _ h => absurd h List.not_mem_nil⟩)) ?_
  intro X hln hC hnL hrt
  subst hln
  have hG := hC.1
  show GF X (tM Z X 3 (fun x : Int32 => some (Value.int x))) _ t 0 [(0, .ref (Z.2.2.2 18))] []
  unfold fX4_script
  refine gf_aload_n hG dX4_script_0 rfl rfl ?_
  refine tf_callV (f := fX4_isForm t) (As := []) (rest := []) (n := 0) (d' := 6) (st1 := fun r1 => [.int r1]) hC hnL (wX4_isForm (gLn X) Z hC.2.2.1 t) dX4_script_1 (lw_V q1601 q1603 qs65 q78 q1604) (by decide +kernel) rfl (by decide) (by decide) (Nat.le_of_ble_eq_true rfl) (fun _ => rfl) (fun r1 t2 => ?_)
  refine gf_if_ne hG (tgt := 21) dX4_script_4 (by decide) ?_ ?_
  · refine gf_aload_n hG dX4_script_7 rfl rfl ?_
    refine gf_iconst hG (nI 0) dX4_script_8 (by decide) ?_
    refine tf_put hC 11 dX4_script_9 (by decide) q1298 rfl (by first | rfl | decide) (by first | rfl | decide) (fun _ => rfl) ?_
    refine gf_letS (fun t3 => ?_)
    refine gf_sipush hG (-1000 : Int32) dX4_script_12 (by decide) ?_
    refine gf_aload_n hG dX4_script_15 rfl rfl ?_
    refine tf_get hC 20 dX4_script_16 (by decide) q1307 rfl ?_
    refine gf_isub hG dX4_script_19 ?_
    exact tf_ret hC hrt rfl rfl dX4_script_20
  · refine gf_aload_n hG dX4_script_21 rfl rfl ?_
    refine tf_get hC 0 dX4_script_22 (by decide) q1287 rfl ?_
    refine gf_aload_n hG dX4_script_25 rfl rfl ?_
    refine tf_get hC 2 dX4_script_26 (by decide) q1289 rfl ?_
    refine tf_callS (f := fX4_take (0) (2) t2) (As := [.ref (Z.2.2.2 0), .ref (Z.2.2.2 2)]) (rest := []) (n := 2) (d' := 1) (st1 := fun _ => []) hC hnL (wX4_take (gLn X) Z hC.2.2.1 (0) (2) t2 (by decide) (by decide)) dX4_script_29 (lw_S q1566 q1567 q78 q1568) (by decide +kernel) rfl (by decide) (by decide) (Nat.le_of_ble_eq_true rfl) (fun _ => rfl) (fun r4 t5 => ?_)
    refine gf_aload_n hG dX4_script_32 rfl rfl ?_
    refine gf_iconst hG (nI 0) dX4_script_33 (by decide) ?_
    refine tf_put hC 19 dX4_script_34 (by decide) q1306 rfl (by first | rfl | decide) (by first | rfl | decide) (fun _ => rfl) ?_
    refine gf_letS (fun t6 => ?_)
    refine gf_iconst hG (nI 0) dX4_script_37 (by decide) ?_
    refine gf_istore_n hG dX4_script_38 rfl (Nat.le_of_ble_eq_true rfl) (lv' := [(0, _), (1, _)]) rfl ?_
    refine gf_iconst hG (nI 1) dX4_script_39 (by decide) ?_
    refine gf_istore_n hG dX4_script_40 rfl (Nat.le_of_ble_eq_true rfl) (lv' := [(0, _), (1, _), (2, _)]) rfl ?_
    refine gfX4_script_L41 hC hnL hrt  _ (fun v1_16 v2_17 t18 => ?_) FU (nI 0) (nI 1) t6
    refine gf_aload_n hG dX4_script_89 rfl rfl ?_
    refine gf_iconst hG (nI 0) dX4_script_90 (by decide) ?_
    refine tf_put hC 11 dX4_script_91 (by decide) q1298 rfl (by first | rfl | decide) (by first | rfl | decide) (fun _ => rfl) ?_
    refine gf_letS (fun t19 => ?_)
    refine gf_iload_n hG dX4_script_94 rfl rfl ?_
    refine gf_if_ne hG (tgt := 117) dX4_script_95 (by decide) ?_ ?_
    · refine gf_aload_n hG dX4_script_98 rfl rfl ?_
      refine tf_get hC 2 dX4_script_99 (by decide) q1289 rfl ?_
      refine gf_aload_n hG dX4_script_102 rfl rfl ?_
      refine tf_get hC 0 dX4_script_103 (by decide) q1287 rfl ?_
      refine tf_callS (f := fX4_take (2) (0) t19) (As := [.ref (Z.2.2.2 2), .ref (Z.2.2.2 0)]) (rest := []) (n := 2) (d' := 1) (st1 := fun _ => []) hC hnL (wX4_take (gLn X) Z hC.2.2.1 (2) (0) t19 (by decide) (by decide)) dX4_script_106 (lw_S q1566 q1567 q78 q1568) (by decide +kernel) rfl (by decide) (by decide) (Nat.le_of_ble_eq_true rfl) (fun _ => rfl) (fun r20 t21 => ?_)
      refine gf_sipush hG (-2000 : Int32) dX4_script_109 (by decide) ?_
      refine gf_iload_n hG dX4_script_112 rfl rfl ?_
      refine gf_iconst hG (nI 1) dX4_script_113 (by decide) ?_
      refine gf_isub hG dX4_script_114 ?_
      refine gf_isub hG dX4_script_115 ?_
      exact tf_ret hC hrt rfl rfl dX4_script_116
    · refine gf_iload_n hG dX4_script_117 rfl rfl ?_
      exact tf_ret hC hrt rfl rfl dX4_script_118
def fX4_drawn_L37 (v1 : Int32) (v2 : Int32) (kx : tSt → Option (Int32 × tSt)) : Nat → Int32 → tSt → Option (Int32 × tSt)
  | 0, _, _ => none
  | k + 1, v3, t =>
    if v3 < v1 then
      rv (trd t 0 (nI 929)) (fun x5 =>
      rv (twr t 0 (nI 929) ((x5 * (nI 1103515245)) + (nI 12345))) (fun t6 =>
      rv (trd t6 0 (nI 929)) (fun x7 =>
      letv (((iushr32 x7 (nI 16)) &&& (nI 32767))) (fun y8 =>
      rv (trd t6 0 (nI 924)) (fun x9 =>
      gd (¬ x9 = 0) (
      ob (fX4_sends (irm y8 x9) (-1 : Int32) ((irm (y8 / (nI 12)) (nI 199)) - (nI 99)) t6) (fun r10 t11 =>
      letv (v3 + (nI 1)) (fun y12 =>
      fX4_drawn_L37 v1 v2 kx k y12 t11
      )
      )
      )
      )
      )
      )
      )
      )
    else
      kx t
set_option maxHeartbeats 4000000 in
theorem gfX4_drawn_L37 {X : gCx} {Z : tZ} (hC : tOk X Z RX4 cX4_drawn 4) (hnL : gLoc X = 5) (hrt : gRet X = (some .int)) (v1 : Int32) (v2 : Int32)  (kx : tSt → Option (Int32 × tSt)) (hkx : ∀  (t : tSt), GF X (tM Z X 5 (fun x : Int32 => some (Value.int x))) (kx t) t 117 [(0, .ref (Z.2.2.2 18)), (2, .int v2)] []) : ∀ (k : Nat) (v3 : Int32) (t : tSt), GF X (tM Z X 5 (fun x : Int32 => some (Value.int x))) (fX4_drawn_L37 v1 v2 kx k v3 t) t 37 [(0, .ref (Z.2.2.2 18)), (1, .int v1), (2, .int v2), (3, .int v3)] [] := by
  have hG := hC.1
  intro k
  induction k with
  | zero => intro v3 t; exact gf_none
  | succ k ih =>
    intro v3 t
    rw [fX4_drawn_L37]
    refine gf_iload_n hG dX4_drawn_37 rfl rfl ?_
    refine gf_iload_n hG dX4_drawn_38 rfl rfl ?_
    refine gf_icmp_ge hG (tgt := 117) dX4_drawn_39 (by decide) ?_ ?_
    · refine gf_aload_n hG dX4_drawn_42 rfl rfl ?_
      refine tf_get hC 0 dX4_drawn_43 (by decide) q1287 rfl ?_
      refine gf_sipush hG (nI 929) dX4_drawn_46 (by decide) ?_
      refine gf_aload_n hG dX4_drawn_49 rfl rfl ?_
      refine tf_get hC 0 dX4_drawn_50 (by decide) q1287 rfl ?_
      refine gf_sipush hG (nI 929) dX4_drawn_53 (by decide) ?_
      refine tf_iald hC dX4_drawn_56 (by decide) (fun x5 => ?_)
      refine gf_ldc hG (nI 1103515245) dX4_drawn_57 q1631 ?_
      refine gf_imul hG dX4_drawn_59 ?_
      refine gf_sipush hG (nI 12345) dX4_drawn_60 (by decide) ?_
      refine gf_iadd hG dX4_drawn_63 ?_
      refine tf_iast hC dX4_drawn_64 (by decide) (fun t6 => ?_)
      refine gf_aload_n hG dX4_drawn_65 rfl rfl ?_
      refine tf_get hC 0 dX4_drawn_66 (by decide) q1287 rfl ?_
      refine gf_sipush hG (nI 929) dX4_drawn_69 (by decide) ?_
      refine tf_iald hC dX4_drawn_72 (by decide) (fun x7 => ?_)
      refine gf_bipush hG (nI 16) dX4_drawn_73 (by decide) ?_
      refine gf_iushr hG dX4_drawn_75 ?_
      refine gf_sipush hG (nI 32767) dX4_drawn_76 (by decide) ?_
      refine gf_iand hG dX4_drawn_79 ?_
      refine gf_letv (fun y8 hy8 => ?_)
      refine gf_istore hG dX4_drawn_80 (Nat.le_of_ble_eq_true rfl) (lv' := [(0, _), (1, _), (2, _), (3, _), (4, _)]) rfl ?_
      refine gf_aload_n hG dX4_drawn_82 rfl rfl ?_
      refine gf_iload hG dX4_drawn_83 rfl ?_
      refine gf_aload_n hG dX4_drawn_85 rfl rfl ?_
      refine tf_get hC 0 dX4_drawn_86 (by decide) q1287 rfl ?_
      refine gf_sipush hG (nI 924) dX4_drawn_89 (by decide) ?_
      refine tf_iald hC dX4_drawn_92 (by decide) (fun x9 => ?_)
      refine gf_gd (fun hnz => ?_)
      refine gf_irem hG dX4_drawn_93 hnz ?_
      refine gf_iconst hG (-1 : Int32) dX4_drawn_94 (by decide) ?_
      refine gf_iload hG dX4_drawn_95 rfl ?_
      refine gf_bipush hG (nI 12) dX4_drawn_97 (by decide) ?_
      refine gf_idiv hG dX4_drawn_99 (by decide) ?_
      refine gf_sipush hG (nI 199) dX4_drawn_100 (by decide) ?_
      refine gf_irem hG dX4_drawn_103 (by decide) ?_
      refine gf_bipush hG (nI 99) dX4_drawn_104 (by decide) ?_
      refine gf_isub hG dX4_drawn_106 ?_
      refine tf_callV (f := fX4_sends (irm y8 x9) (-1 : Int32) ((irm (y8 / (nI 12)) (nI 199)) - (nI 99)) t6) (As := [.int (irm y8 x9), .int (-1 : Int32), .int ((irm (y8 / (nI 12)) (nI 199)) - (nI 99))]) (rest := []) (n := 3) (d' := 3) (st1 := fun r10 => [.int r10]) hC hnL (wX4_sends (gLn X) Z hC.2.2.1 (irm y8 x9) (-1 : Int32) ((irm (y8 / (nI 12)) (nI 199)) - (nI 99)) t6) dX4_drawn_107 (lw_V q1391 q1393 qs35 q78 q1394) (by decide +kernel) rfl (by decide) (by decide) (Nat.le_of_ble_eq_true rfl) (fun _ => rfl) (fun r10 t11 => ?_)
      refine gf_pop hG dX4_drawn_110 rfl ?_
      refine gf_letiinc hG (c := (nI 1)) (lv' := fun y12 => [(0, .ref (Z.2.2.2 18)), (1, .int v1), (2, .int v2), (3, .int y12), (4, .int y8)]) dX4_drawn_111 rfl (by decide) (Nat.le_of_ble_eq_true rfl) (fun _ => rfl) (fun y12 => ?_)
      refine gf_goto hG (tgt := 37) dX4_drawn_114 (by decide) ?_
      refine gf_sub [0, 1, 2, 3] rfl ?_
      exact ih y12 t11
    · refine gf_sub [0, 2] rfl ?_
      exact hkx t
def fX4_drawn (v1 : Int32) (t : tSt) : Option (Int32 × tSt) :=
  ob (fX4_in v1 (nI 1) (nI 40) t) (fun r1 t2 =>
  if r1 = 0 then
    some ((-1 : Int32), t2)
  else
    rv (trd t2 0 (nI 924)) (fun x3 =>
    if x3 = 0 then
      some ((-5 : Int32), t2)
    else
      rv (trd t2 0 (nI 927)) (fun x4 =>
      fX4_drawn_L37 v1 x4 (fun  (t13 : tSt) =>
        rv (trd t13 0 (nI 927)) (fun x14 =>
        some ((x14 - x4), t13)
        )
        ) FU (nI 0) t2
      )
    )
  )
set_option maxHeartbeats 4000000 in
theorem wX4_drawn (l : Launch) (Z : tZ) (hj : tInj Z) (v1 : Int32) (t : tSt)  : ∀ (r : Int32) (t' : tSt), fX4_drawn v1 t = some (r, t') → tCt l Z yX4_drawn cX4_drawn 5 (some .int) 4 [.ref (Z.2.2.2 18), .int v1] t (some (.int r)) t' := by
  refine tmet (ρ := (fun x : Int32 => some (Value.int x))) (av := [.ref (Z.2.2.2 18), .int v1]) hj (by decide +kernel) (Nat.le_of_ble_eq_true rfl) (lv_args_cat (List.forall_mem_cons.mpr ⟨rfl, List.forall_mem_cons.mpr ⟨rfl, fun _ h => absurd h List.not_mem_nil⟩⟩)) ?_
  intro X hln hC hnL hrt
  subst hln
  have hG := hC.1
  show GF X (tM Z X 5 (fun x : Int32 => some (Value.int x))) _ t 0 [(0, .ref (Z.2.2.2 18)), (1, .int v1)] []
  unfold fX4_drawn
  refine gf_iload_n hG dX4_drawn_0 rfl rfl ?_
  refine gf_iconst hG (nI 1) dX4_drawn_1 (by decide) ?_
  refine gf_bipush hG (nI 40) dX4_drawn_2 (by decide) ?_
  refine tf_callS (f := fX4_in v1 (nI 1) (nI 40) t) (As := [.int v1, .int (nI 1), .int (nI 40)]) (rest := []) (n := 3) (d' := 1) (st1 := fun r1 => [.int r1]) hC hnL (wX4_in (gLn X) Z hC.2.2.1 v1 (nI 1) (nI 40) t) dX4_drawn_4 (lw_S q1366 q1367 q78 q1368) (by decide +kernel) rfl (by decide) (by decide) (Nat.le_of_ble_eq_true rfl) (fun _ => rfl) (fun r1 t2 => ?_)
  refine gf_if_ne hG (tgt := 12) dX4_drawn_7 (by decide) ?_ ?_
  · refine gf_iconst hG (-1 : Int32) dX4_drawn_10 (by decide) ?_
    exact tf_ret hC hrt rfl rfl dX4_drawn_11
  · refine gf_aload_n hG dX4_drawn_12 rfl rfl ?_
    refine tf_get hC 0 dX4_drawn_13 (by decide) q1287 rfl ?_
    refine gf_sipush hG (nI 924) dX4_drawn_16 (by decide) ?_
    refine tf_iald hC dX4_drawn_19 (by decide) (fun x3 => ?_)
    refine gf_if_ne hG (tgt := 26) dX4_drawn_20 (by decide) ?_ ?_
    · refine gf_bipush hG (-5 : Int32) dX4_drawn_23 (by decide) ?_
      exact tf_ret hC hrt rfl rfl dX4_drawn_25
    · refine gf_aload_n hG dX4_drawn_26 rfl rfl ?_
      refine tf_get hC 0 dX4_drawn_27 (by decide) q1287 rfl ?_
      refine gf_sipush hG (nI 927) dX4_drawn_30 (by decide) ?_
      refine tf_iald hC dX4_drawn_33 (by decide) (fun x4 => ?_)
      refine gf_istore_n hG dX4_drawn_34 rfl (Nat.le_of_ble_eq_true rfl) (lv' := [(0, _), (1, _), (2, _)]) rfl ?_
      refine gf_iconst hG (nI 0) dX4_drawn_35 (by decide) ?_
      refine gf_istore_n hG dX4_drawn_36 rfl (Nat.le_of_ble_eq_true rfl) (lv' := [(0, _), (1, _), (2, _), (3, _)]) rfl ?_
      refine gfX4_drawn_L37 hC hnL hrt v1 x4 _ (fun t13 => ?_) FU (nI 0) t2
      refine gf_aload_n hG dX4_drawn_117 rfl rfl ?_
      refine tf_get hC 0 dX4_drawn_118 (by decide) q1287 rfl ?_
      refine gf_sipush hG (nI 927) dX4_drawn_121 (by decide) ?_
      refine tf_iald hC dX4_drawn_124 (by decide) (fun x14 => ?_)
      refine gf_iload_n hG dX4_drawn_125 rfl rfl ?_
      refine gf_isub hG dX4_drawn_126 ?_
      exact tf_ret hC hrt rfl rfl dX4_drawn_127
def fX4_seed (v1 : Int32) (t : tSt) : Option (Int32 × tSt) :=
  rv (trd t 0 (nI 929)) (fun x1 =>
  rv (twr t 0 (nI 929) v1) (fun t2 =>
  some (x1, t2)
  )
  )
set_option maxHeartbeats 4000000 in
theorem wX4_seed (l : Launch) (Z : tZ) (hj : tInj Z) (v1 : Int32) (t : tSt)  : ∀ (r : Int32) (t' : tSt), fX4_seed v1 t = some (r, t') → tCt l Z yX4_seed cX4_seed 3 (some .int) 1 [.ref (Z.2.2.2 18), .int v1] t (some (.int r)) t' := by
  refine tmet (ρ := (fun x : Int32 => some (Value.int x))) (av := [.ref (Z.2.2.2 18), .int v1]) hj (by decide +kernel) (Nat.le_of_ble_eq_true rfl) (lv_args_cat (List.forall_mem_cons.mpr ⟨rfl, List.forall_mem_cons.mpr ⟨rfl, fun _ h => absurd h List.not_mem_nil⟩⟩)) ?_
  intro X hln hC hnL hrt
  subst hln
  have hG := hC.1
  show GF X (tM Z X 3 (fun x : Int32 => some (Value.int x))) _ t 0 [(0, .ref (Z.2.2.2 18)), (1, .int v1)] []
  unfold fX4_seed
  refine gf_aload_n hG dX4_seed_0 rfl rfl ?_
  refine tf_get hC 0 dX4_seed_1 (by decide) q1287 rfl ?_
  refine gf_sipush hG (nI 929) dX4_seed_4 (by decide) ?_
  refine tf_iald hC dX4_seed_7 (by decide) (fun x1 => ?_)
  refine gf_istore_n hG dX4_seed_8 rfl (Nat.le_of_ble_eq_true rfl) (lv' := [(0, _), (1, _), (2, _)]) rfl ?_
  refine gf_aload_n hG dX4_seed_9 rfl rfl ?_
  refine tf_get hC 0 dX4_seed_10 (by decide) q1287 rfl ?_
  refine gf_sipush hG (nI 929) dX4_seed_13 (by decide) ?_
  refine gf_iload_n hG dX4_seed_16 rfl rfl ?_
  refine tf_iast hC dX4_seed_17 (by decide) (fun t2 => ?_)
  refine gf_iload_n hG dX4_seed_18 rfl rfl ?_
  exact tf_ret hC hrt rfl rfl dX4_seed_19
def fX4_isHandle (v1 : Int32) (t : tSt) : Option (Int32 × tSt) :=
  ob (fX4_in v1 (nI 0) (nI 5) t) (fun r1 t2 =>
  gd (r1 = nI 0 ∨ r1 = nI 1) (some (r1, t2))
  )
set_option maxHeartbeats 4000000 in
theorem wX4_isHandle (l : Launch) (Z : tZ) (hj : tInj Z) (v1 : Int32) (t : tSt)  : ∀ (r : Int32) (t' : tSt), fX4_isHandle v1 t = some (r, t') → tCt l Z yX4_isHandle cX4_isHandle 2 (some .boolean) 2 [.ref (Z.2.2.2 18), .int v1] t (some (.int r)) t' := by
  refine tmet (ρ := (fun x : Int32 => some (Value.int x))) (av := [.ref (Z.2.2.2 18), .int v1]) hj (by decide +kernel) (Nat.le_of_ble_eq_true rfl) (lv_args_cat (List.forall_mem_cons.mpr ⟨rfl, List.forall_mem_cons.mpr ⟨rfl, fun _ h => absurd h List.not_mem_nil⟩⟩)) ?_
  intro X hln hC hnL hrt
  subst hln
  have hG := hC.1
  show GF X (tM Z X 2 (fun x : Int32 => some (Value.int x))) _ t 0 [(0, .ref (Z.2.2.2 18)), (1, .int v1)] []
  unfold fX4_isHandle
  refine gf_iload_n hG dX4_isHandle_0 rfl rfl ?_
  refine gf_iconst hG (nI 0) dX4_isHandle_1 (by decide) ?_
  refine gf_iconst hG (nI 5) dX4_isHandle_2 (by decide) ?_
  refine tf_callS (f := fX4_in v1 (nI 0) (nI 5) t) (As := [.int v1, .int (nI 0), .int (nI 5)]) (rest := []) (n := 3) (d' := 1) (st1 := fun r1 => [.int r1]) hC hnL (wX4_in (gLn X) Z hC.2.2.1 v1 (nI 0) (nI 5) t) dX4_isHandle_3 (lw_S q1366 q1367 q78 q1368) (by decide +kernel) rfl (by decide) (by decide) (Nat.le_of_ble_eq_true rfl) (fun _ => rfl) (fun r1 t2 => ?_)
  exact gf_gd (fun hz => tf_ret hC hrt (nar_z hz) rfl dX4_isHandle_6)
def fX4_ordered_L17 (v1 : Int32) (v2 : Int32) (v4 : Int32) (kx : Int32 → tSt → Option (Int32 × tSt)) : Nat → Int32 → tSt → Option (Int32 × tSt)
  | 0, _, _ => none
  | k + 1, v3, t =>
    if (t 18 7) = (-2 : Int32) then
      if v3 < (nI 200) then
        ob (fX4_hasStep t) (fun r2 t3 =>
        if r2 = 0 then
          kx v3 t3
        else
          ob (fX4_step t3) (fun r4 t5 =>
          letv (v3 + (nI 1)) (fun y6 =>
          fX4_ordered_L17 v1 v2 v4 kx k y6 t5
          )
          )
        )
      else
        kx v3 t
    else
      kx v3 t
set_option maxHeartbeats 4000000 in
theorem gfX4_ordered_L17 {X : gCx} {Z : tZ} (hC : tOk X Z RX4 cX4_ordered 45) (hnL : gLoc X = 5) (hrt : gRet X = (some .int)) (v1 : Int32) (v2 : Int32) (v4 : Int32)  (kx : Int32 → tSt → Option (Int32 × tSt)) (hkx : ∀ (v3 : Int32) (t : tSt), GF X (tM Z X 5 (fun x : Int32 => some (Value.int x))) (kx v3 t) t 50 [(0, .ref (Z.2.2.2 18)), (1, .int v1), (2, .int v2), (3, .int v3), (4, .int v4)] []) : ∀ (k : Nat) (v3 : Int32) (t : tSt), GF X (tM Z X 5 (fun x : Int32 => some (Value.int x))) (fX4_ordered_L17 v1 v2 v4 kx k v3 t) t 17 [(0, .ref (Z.2.2.2 18)), (1, .int v1), (2, .int v2), (3, .int v3), (4, .int v4)] [] := by
  have hG := hC.1
  intro k
  induction k with
  | zero => intro v3 t; exact gf_none
  | succ k ih =>
    intro v3 t
    rw [fX4_ordered_L17]
    refine gf_aload_n hG dX4_ordered_17 rfl rfl ?_
    refine tf_get hC 7 dX4_ordered_18 (by decide) q1294 rfl ?_
    refine gf_bipush hG (-2 : Int32) dX4_ordered_21 (by decide) ?_
    refine gf_icmp_ne hG (tgt := 50) dX4_ordered_23 (by decide) ?_ ?_
    · refine gf_iload_n hG dX4_ordered_26 rfl rfl ?_
      refine gf_sipush hG (nI 200) dX4_ordered_27 (by decide) ?_
      refine gf_icmp_ge hG (tgt := 50) dX4_ordered_30 (by decide) ?_ ?_
      · refine gf_aload_n hG dX4_ordered_33 rfl rfl ?_
        refine tf_callV (f := fX4_hasStep t) (As := []) (rest := []) (n := 0) (d' := 4) (st1 := fun r2 => [.int r2]) hC hnL (wX4_hasStep (gLn X) Z hC.2.2.1 t) dX4_ordered_34 (lw_V q1487 q1489 qs49 q78 q1490) (by decide +kernel) rfl (by decide) (by decide) (Nat.le_of_ble_eq_true rfl) (fun _ => rfl) (fun r2 t3 => ?_)
        refine gf_if_eq hG (tgt := 50) dX4_ordered_37 (by decide) ?_ ?_
        · exact hkx v3 t3
        · refine gf_aload_n hG dX4_ordered_40 rfl rfl ?_
          refine tf_callV (f := fX4_step t3) (As := []) (rest := []) (n := 0) (d' := 44) (st1 := fun _ => []) hC hnL (wX4_step (gLn X) Z hC.2.2.1 t3) dX4_ordered_41 (lw_V q1495 q1497 qs51 q78 q1498) (by decide +kernel) rfl (by decide) (by decide) (Nat.le_of_ble_eq_true rfl) (fun _ => rfl) (fun r4 t5 => ?_)
          refine gf_letiinc hG (c := (nI 1)) (lv' := fun y6 => [(0, .ref (Z.2.2.2 18)), (1, .int v1), (2, .int v2), (3, .int y6), (4, .int v4)]) dX4_ordered_44 rfl (by decide) (Nat.le_of_ble_eq_true rfl) (fun _ => rfl) (fun y6 => ?_)
          refine gf_goto hG (tgt := 17) dX4_ordered_47 (by decide) ?_
          exact ih y6 t5
      · exact hkx v3 t
    · exact hkx v3 t
def fX4_ordered_L5 (v1 : Int32) (v2 : Int32) (kx : tSt → Option (Int32 × tSt)) : Nat → Int32 → Int32 → tSt → Option (Int32 × tSt)
  | 0, _, _, _ => none
  | k + 1, v3, v4, t =>
    if v4 < v2 then
      letv (tup t 18 7 (-2 : Int32)) (fun t1 =>
      fX4_ordered_L17 v1 v2 v4 (fun (v3_7 : Int32) (t8 : tSt) =>
        if (t8 18 7) = (-2 : Int32) then
          some (v4, t8)
        else
          rv (trow v1) (fun n9 =>
          rv (trd t8 n9 ((nI 2) * v4)) (fun x10 =>
          if x10 = ((t8 18 7) / (nI 1000)) then
            rv (trow v1) (fun n11 =>
            rv (trd t8 n11 (((nI 2) * v4) + (nI 1))) (fun x12 =>
            if x12 = ((irm (t8 18 7) (nI 1000)) - (nI 300)) then
              letv (v4 + (nI 1)) (fun y13 =>
              fX4_ordered_L5 v1 v2 kx k v3_7 y13 t8
              )
            else
              some (v4, t8)
            )
            )
          else
            some (v4, t8)
          )
          )
        ) FU v3 t1
      )
    else
      kx t
set_option maxHeartbeats 4000000 in
theorem gfX4_ordered_L5 {X : gCx} {Z : tZ} (hC : tOk X Z RX4 cX4_ordered 45) (hnL : gLoc X = 5) (hrt : gRet X = (some .int)) (v1 : Int32) (v2 : Int32)  (kx : tSt → Option (Int32 × tSt)) (hkx : ∀  (t : tSt), GF X (tM Z X 5 (fun x : Int32 => some (Value.int x))) (kx t) t 118 [] []) : ∀ (k : Nat) (v3 : Int32) (v4 : Int32) (t : tSt), GF X (tM Z X 5 (fun x : Int32 => some (Value.int x))) (fX4_ordered_L5 v1 v2 kx k v3 v4 t) t 5 [(0, .ref (Z.2.2.2 18)), (1, .int v1), (2, .int v2), (3, .int v3), (4, .int v4)] [] := by
  have hG := hC.1
  intro k
  induction k with
  | zero => intro v3 v4 t; exact gf_none
  | succ k ih =>
    intro v3 v4 t
    rw [fX4_ordered_L5]
    refine gf_iload hG dX4_ordered_5 rfl ?_
    refine gf_iload_n hG dX4_ordered_7 rfl rfl ?_
    refine gf_icmp_ge hG (tgt := 118) dX4_ordered_8 (by decide) ?_ ?_
    · refine gf_aload_n hG dX4_ordered_11 rfl rfl ?_
      refine gf_bipush hG (-2 : Int32) dX4_ordered_12 (by decide) ?_
      refine tf_put hC 7 dX4_ordered_14 (by decide) q1294 rfl (by first | rfl | decide) (by first | rfl | decide) (fun _ => rfl) ?_
      refine gf_letS (fun t1 => ?_)
      refine gfX4_ordered_L17 hC hnL hrt v1 v2 v4 _ (fun v3_7 t8 => ?_) FU v3 t1
      refine gf_aload_n hG dX4_ordered_50 rfl rfl ?_
      refine tf_get hC 7 dX4_ordered_51 (by decide) q1294 rfl ?_
      refine gf_bipush hG (-2 : Int32) dX4_ordered_54 (by decide) ?_
      refine gf_icmp_eq hG (tgt := 109) dX4_ordered_56 (by decide) ?_ ?_
      · refine gf_iload hG dX4_ordered_109 rfl ?_
        exact tf_ret hC hrt rfl rfl dX4_ordered_111
      · refine gf_aload_n hG dX4_ordered_59 rfl rfl ?_
        refine tf_get hC 15 dX4_ordered_60 (by decide) q1302 rfl ?_
        refine gf_iload_n hG dX4_ordered_63 rfl rfl ?_
        refine tf_aald hC dX4_ordered_64 (fun n9 hn9 => ?_)
        refine gf_iconst hG (nI 2) dX4_ordered_65 (by decide) ?_
        refine gf_iload hG dX4_ordered_66 rfl ?_
        refine gf_imul hG dX4_ordered_68 ?_
        refine tf_iald hC dX4_ordered_69 hn9 (fun x10 => ?_)
        refine gf_aload_n hG dX4_ordered_70 rfl rfl ?_
        refine tf_get hC 7 dX4_ordered_71 (by decide) q1294 rfl ?_
        refine gf_sipush hG (nI 1000) dX4_ordered_74 (by decide) ?_
        refine gf_idiv hG dX4_ordered_77 (by decide) ?_
        refine gf_icmp_ne hG (tgt := 109) dX4_ordered_78 (by decide) ?_ ?_
        · refine gf_aload_n hG dX4_ordered_81 rfl rfl ?_
          refine tf_get hC 15 dX4_ordered_82 (by decide) q1302 rfl ?_
          refine gf_iload_n hG dX4_ordered_85 rfl rfl ?_
          refine tf_aald hC dX4_ordered_86 (fun n11 hn11 => ?_)
          refine gf_iconst hG (nI 2) dX4_ordered_87 (by decide) ?_
          refine gf_iload hG dX4_ordered_88 rfl ?_
          refine gf_imul hG dX4_ordered_90 ?_
          refine gf_iconst hG (nI 1) dX4_ordered_91 (by decide) ?_
          refine gf_iadd hG dX4_ordered_92 ?_
          refine tf_iald hC dX4_ordered_93 hn11 (fun x12 => ?_)
          refine gf_aload_n hG dX4_ordered_94 rfl rfl ?_
          refine tf_get hC 7 dX4_ordered_95 (by decide) q1294 rfl ?_
          refine gf_sipush hG (nI 1000) dX4_ordered_98 (by decide) ?_
          refine gf_irem hG dX4_ordered_101 (by decide) ?_
          refine gf_sipush hG (nI 300) dX4_ordered_102 (by decide) ?_
          refine gf_isub hG dX4_ordered_105 ?_
          refine gf_icmp_eq hG (tgt := 112) dX4_ordered_106 (by decide) ?_ ?_
          · refine gf_letiinc hG (c := (nI 1)) (lv' := fun y13 => [(0, .ref (Z.2.2.2 18)), (1, .int v1), (2, .int v2), (3, .int v3_7), (4, .int y13)]) dX4_ordered_112 rfl (by decide) (Nat.le_of_ble_eq_true rfl) (fun _ => rfl) (fun y13 => ?_)
            refine gf_goto hG (tgt := 5) dX4_ordered_115 (by decide) ?_
            exact ih v3_7 y13 t8
          · refine gf_iload hG dX4_ordered_109 rfl ?_
            exact tf_ret hC hrt rfl rfl dX4_ordered_111
        · refine gf_iload hG dX4_ordered_109 rfl ?_
          exact tf_ret hC hrt rfl rfl dX4_ordered_111
    · refine gf_sub [] rfl ?_
      exact hkx t
def fX4_ordered (v1 : Int32) (v2 : Int32) (t : tSt) : Option (Int32 × tSt) :=
  fX4_ordered_L5 v1 v2 (fun  (t14 : tSt) =>
    some ((-2 : Int32), t14)
    ) FU (nI 0) (nI 0) t
set_option maxHeartbeats 4000000 in
theorem wX4_ordered (l : Launch) (Z : tZ) (hj : tInj Z) (v1 : Int32) (v2 : Int32) (t : tSt)  : ∀ (r : Int32) (t' : tSt), fX4_ordered v1 v2 t = some (r, t') → tCt l Z yX4_ordered cX4_ordered 5 (some .int) 45 [.ref (Z.2.2.2 18), .int v1, .int v2] t (some (.int r)) t' := by
  refine tmet (ρ := (fun x : Int32 => some (Value.int x))) (av := [.ref (Z.2.2.2 18), .int v1, .int v2]) hj (by decide +kernel) (Nat.le_of_ble_eq_true rfl) (lv_args_cat (List.forall_mem_cons.mpr ⟨rfl, List.forall_mem_cons.mpr ⟨rfl, List.forall_mem_cons.mpr ⟨rfl, fun _ h => absurd h List.not_mem_nil⟩⟩⟩)) ?_
  intro X hln hC hnL hrt
  subst hln
  have hG := hC.1
  show GF X (tM Z X 5 (fun x : Int32 => some (Value.int x))) _ t 0 [(0, .ref (Z.2.2.2 18)), (1, .int v1), (2, .int v2)] []
  unfold fX4_ordered
  refine gf_iconst hG (nI 0) dX4_ordered_0 (by decide) ?_
  refine gf_istore_n hG dX4_ordered_1 rfl (Nat.le_of_ble_eq_true rfl) (lv' := [(0, _), (1, _), (2, _), (3, _)]) rfl ?_
  refine gf_iconst hG (nI 0) dX4_ordered_2 (by decide) ?_
  refine gf_istore hG dX4_ordered_3 (Nat.le_of_ble_eq_true rfl) (lv' := [(0, _), (1, _), (2, _), (3, _), (4, _)]) rfl ?_
  refine gfX4_ordered_L5 hC hnL hrt v1 v2 _ (fun t14 => ?_) FU (nI 0) (nI 0) t
  refine gf_bipush hG (-2 : Int32) dX4_ordered_118 (by decide) ?_
  exact tf_ret hC hrt rfl rfl dX4_ordered_120
def fX4_order (v1 : Int32) (v2 : Int32) (t : tSt) : Option (Int32 × tSt) :=
  ob (fX4_isHandle v1 t) (fun r1 t2 =>
  if r1 = 0 then
    some ((-1 : Int32), t2)
  else
    rv (trd t2 6 v1) (fun x3 =>
    if x3 = (nI 2) then
      if v2 < 0 then
        some ((-14 : Int32), t2)
      else
        rv (trd t2 8 v1) (fun x4 =>
        if (x4 / (nI 2)) < v2 then
          some ((-13 : Int32), t2)
        else
          ob (fX4_take (0) (1) t2) (fun r5 t6 =>
          ob (fX4_ordered v1 v2 t6) (fun r7 t8 =>
          ob (fX4_take (1) (0) t8) (fun r9 t10 =>
          some (r7, t10)
          )
          )
          )
        )
    else
      rv (trd t2 6 v1) (fun x11 =>
      if x11 = 0 then
        some ((-11 : Int32), t2)
      else
        some ((-12 : Int32), t2)
      )
    )
  )
set_option maxHeartbeats 4000000 in
theorem wX4_order (l : Launch) (Z : tZ) (hj : tInj Z) (v1 : Int32) (v2 : Int32) (t : tSt)  : ∀ (r : Int32) (t' : tSt), fX4_order v1 v2 t = some (r, t') → tCt l Z yX4_order cX4_order 4 (some .int) 46 [.ref (Z.2.2.2 18), .int v1, .int v2] t (some (.int r)) t' := by
  refine tmet (ρ := (fun x : Int32 => some (Value.int x))) (av := [.ref (Z.2.2.2 18), .int v1, .int v2]) hj (by decide +kernel) (Nat.le_of_ble_eq_true rfl) (lv_args_cat (List.forall_mem_cons.mpr ⟨rfl, List.forall_mem_cons.mpr ⟨rfl, List.forall_mem_cons.mpr ⟨rfl, fun _ h => absurd h List.not_mem_nil⟩⟩⟩)) ?_
  intro X hln hC hnL hrt
  subst hln
  have hG := hC.1
  show GF X (tM Z X 4 (fun x : Int32 => some (Value.int x))) _ t 0 [(0, .ref (Z.2.2.2 18)), (1, .int v1), (2, .int v2)] []
  unfold fX4_order
  refine gf_aload_n hG dX4_order_0 rfl rfl ?_
  refine gf_iload_n hG dX4_order_1 rfl rfl ?_
  refine tf_callV (f := fX4_isHandle v1 t) (As := [.int v1]) (rest := []) (n := 1) (d' := 2) (st1 := fun r1 => [.int r1]) hC hnL (wX4_isHandle (gLn X) Z hC.2.2.1 v1 t) dX4_order_2 (lw_V q1640 q1642 qs71 q78 q1643) (by decide +kernel) rfl (by decide) (by decide) (Nat.le_of_ble_eq_true rfl) (fun _ => rfl) (fun r1 t2 => ?_)
  refine gf_if_ne hG (tgt := 10) dX4_order_5 (by decide) ?_ ?_
  · refine gf_iconst hG (-1 : Int32) dX4_order_8 (by decide) ?_
    exact tf_ret hC hrt rfl rfl dX4_order_9
  · refine gf_aload_n hG dX4_order_10 rfl rfl ?_
    refine tf_get hC 12 dX4_order_11 (by decide) q1299 rfl ?_
    refine gf_iload_n hG dX4_order_14 rfl rfl ?_
    refine tf_iald hC dX4_order_15 (by decide) (fun x3 => ?_)
    refine gf_iconst hG (nI 2) dX4_order_16 (by decide) ?_
    refine gf_icmp_eq hG (tgt := 37) dX4_order_17 (by decide) ?_ ?_
    · refine gf_iload_n hG dX4_order_37 rfl rfl ?_
      refine gf_if_ge hG (tgt := 44) dX4_order_38 (by decide) ?_ ?_
      · refine gf_bipush hG (-14 : Int32) dX4_order_41 (by decide) ?_
        exact tf_ret hC hrt rfl rfl dX4_order_43
      · refine gf_iload_n hG dX4_order_44 rfl rfl ?_
        refine gf_aload_n hG dX4_order_45 rfl rfl ?_
        refine tf_get hC 14 dX4_order_46 (by decide) q1301 rfl ?_
        refine gf_iload_n hG dX4_order_49 rfl rfl ?_
        refine tf_iald hC dX4_order_50 (by decide) (fun x4 => ?_)
        refine gf_iconst hG (nI 2) dX4_order_51 (by decide) ?_
        refine gf_idiv hG dX4_order_52 (by decide) ?_
        refine gf_icmp_le hG (tgt := 59) dX4_order_53 (by decide) ?_ ?_
        · refine gf_bipush hG (-13 : Int32) dX4_order_56 (by decide) ?_
          exact tf_ret hC hrt rfl rfl dX4_order_58
        · refine gf_aload_n hG dX4_order_59 rfl rfl ?_
          refine tf_get hC 0 dX4_order_60 (by decide) q1287 rfl ?_
          refine gf_aload_n hG dX4_order_63 rfl rfl ?_
          refine tf_get hC 1 dX4_order_64 (by decide) q1288 rfl ?_
          refine tf_callS (f := fX4_take (0) (1) t2) (As := [.ref (Z.2.2.2 0), .ref (Z.2.2.2 1)]) (rest := []) (n := 2) (d' := 1) (st1 := fun _ => []) hC hnL (wX4_take (gLn X) Z hC.2.2.1 (0) (1) t2 (by decide) (by decide)) dX4_order_67 (lw_S q1566 q1567 q78 q1568) (by decide +kernel) rfl (by decide) (by decide) (Nat.le_of_ble_eq_true rfl) (fun _ => rfl) (fun r5 t6 => ?_)
          refine gf_aload_n hG dX4_order_70 rfl rfl ?_
          refine gf_iload_n hG dX4_order_71 rfl rfl ?_
          refine gf_iload_n hG dX4_order_72 rfl rfl ?_
          refine tf_callV (f := fX4_ordered v1 v2 t6) (As := [.int v1, .int v2]) (rest := []) (n := 2) (d' := 45) (st1 := fun r7 => [.int r7]) hC hnL (wX4_ordered (gLn X) Z hC.2.2.1 v1 v2 t6) dX4_order_73 (lw_V q1644 q1646 qs72 q78 q1647) (by decide +kernel) rfl (by decide) (by decide) (Nat.le_of_ble_eq_true rfl) (fun _ => rfl) (fun r7 t8 => ?_)
          refine gf_istore_n hG dX4_order_76 rfl (Nat.le_of_ble_eq_true rfl) (lv' := [(0, _), (1, _), (2, _), (3, _)]) rfl ?_
          refine gf_aload_n hG dX4_order_77 rfl rfl ?_
          refine tf_get hC 1 dX4_order_78 (by decide) q1288 rfl ?_
          refine gf_aload_n hG dX4_order_81 rfl rfl ?_
          refine tf_get hC 0 dX4_order_82 (by decide) q1287 rfl ?_
          refine tf_callS (f := fX4_take (1) (0) t8) (As := [.ref (Z.2.2.2 1), .ref (Z.2.2.2 0)]) (rest := []) (n := 2) (d' := 1) (st1 := fun _ => []) hC hnL (wX4_take (gLn X) Z hC.2.2.1 (1) (0) t8 (by decide) (by decide)) dX4_order_85 (lw_S q1566 q1567 q78 q1568) (by decide +kernel) rfl (by decide) (by decide) (Nat.le_of_ble_eq_true rfl) (fun _ => rfl) (fun r9 t10 => ?_)
          refine gf_iload_n hG dX4_order_88 rfl rfl ?_
          exact tf_ret hC hrt rfl rfl dX4_order_89
    · refine gf_aload_n hG dX4_order_20 rfl rfl ?_
      refine tf_get hC 12 dX4_order_21 (by decide) q1299 rfl ?_
      refine gf_iload_n hG dX4_order_24 rfl rfl ?_
      refine tf_iald hC dX4_order_25 (by decide) (fun x11 => ?_)
      refine gf_if_ne hG (tgt := 34) dX4_order_26 (by decide) ?_ ?_
      · refine gf_bipush hG (-11 : Int32) dX4_order_29 (by decide) ?_
        refine gf_goto hG (tgt := 36) dX4_order_31 (by decide) ?_
        exact tf_ret hC hrt rfl rfl dX4_order_36
      · refine gf_bipush hG (-12 : Int32) dX4_order_34 (by decide) ?_
        exact tf_ret hC hrt rfl rfl dX4_order_36
