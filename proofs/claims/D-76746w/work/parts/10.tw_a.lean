/-! walks, by program -/
def fX4_in (v0 : Int32) (v1 : Int32) (v2 : Int32) (t : tSt) : Option (Int32 × tSt) :=
  if v0 < v1 then
    some ((nI 0), t)
  else
    if v2 < v0 then
      some ((nI 0), t)
    else
      some ((nI 1), t)
set_option maxHeartbeats 4000000 in
theorem wX4_in (l : Launch) (Z : tZ) (hj : tInj Z) (v0 : Int32) (v1 : Int32) (v2 : Int32) (t : tSt)  : ∀ (r : Int32) (t' : tSt), fX4_in v0 v1 v2 t = some (r, t') → tCt l Z yX4_in cX4_in 3 (some .boolean) 1 [.int v0, .int v1, .int v2] t (some (.int r)) t' := by
  refine tmet (ρ := (fun x : Int32 => some (Value.int x))) (av := [.int v0, .int v1, .int v2]) hj (by decide +kernel) (Nat.le_of_ble_eq_true rfl) (lv_args_cat (List.forall_mem_cons.mpr ⟨rfl, List.forall_mem_cons.mpr ⟨rfl, List.forall_mem_cons.mpr ⟨rfl, fun _ h => absurd h List.not_mem_nil⟩⟩⟩)) ?_
  intro X hln hC hnL hrt
  subst hln
  have hG := hC.1
  show GF X (tM Z X 3 (fun x : Int32 => some (Value.int x))) _ t 0 [(0, .int v0), (1, .int v1), (2, .int v2)] []
  unfold fX4_in
  refine gf_iload_n hG dX4_in_0 rfl rfl ?_
  refine gf_iload_n hG dX4_in_1 rfl rfl ?_
  refine gf_icmp_lt hG (tgt := 14) dX4_in_2 (by decide) ?_ ?_
  · refine gf_iconst hG (nI 0) dX4_in_14 (by decide) ?_
    exact tf_ret hC hrt (by decide) rfl dX4_in_15
  · refine gf_iload_n hG dX4_in_5 rfl rfl ?_
    refine gf_iload_n hG dX4_in_6 rfl rfl ?_
    refine gf_icmp_gt hG (tgt := 14) dX4_in_7 (by decide) ?_ ?_
    · refine gf_iconst hG (nI 0) dX4_in_14 (by decide) ?_
      exact tf_ret hC hrt (by decide) rfl dX4_in_15
    · refine gf_iconst hG (nI 1) dX4_in_10 (by decide) ?_
      refine gf_goto hG (tgt := 15) dX4_in_11 (by decide) ?_
      exact tf_ret hC hrt (by decide) rfl dX4_in_15
def fX4_isActor (v1 : Int32) (t : tSt) : Option (Int32 × tSt) :=
  rv (trd t 0 (nI 924)) (fun x1 =>
  ob (fX4_in v1 (nI 0) (x1 - (nI 1)) t) (fun r2 t3 =>
  gd (r2 = nI 0 ∨ r2 = nI 1) (some (r2, t3))
  )
  )
set_option maxHeartbeats 4000000 in
theorem wX4_isActor (l : Launch) (Z : tZ) (hj : tInj Z) (v1 : Int32) (t : tSt)  : ∀ (r : Int32) (t' : tSt), fX4_isActor v1 t = some (r, t') → tCt l Z yX4_isActor cX4_isActor 2 (some .boolean) 2 [.ref (Z.2.2.2 18), .int v1] t (some (.int r)) t' := by
  refine tmet (ρ := (fun x : Int32 => some (Value.int x))) (av := [.ref (Z.2.2.2 18), .int v1]) hj (by decide +kernel) (Nat.le_of_ble_eq_true rfl) (lv_args_cat (List.forall_mem_cons.mpr ⟨rfl, List.forall_mem_cons.mpr ⟨rfl, fun _ h => absurd h List.not_mem_nil⟩⟩)) ?_
  intro X hln hC hnL hrt
  subst hln
  have hG := hC.1
  show GF X (tM Z X 2 (fun x : Int32 => some (Value.int x))) _ t 0 [(0, .ref (Z.2.2.2 18)), (1, .int v1)] []
  unfold fX4_isActor
  refine gf_iload_n hG dX4_isActor_0 rfl rfl ?_
  refine gf_iconst hG (nI 0) dX4_isActor_1 (by decide) ?_
  refine gf_aload_n hG dX4_isActor_2 rfl rfl ?_
  refine tf_get hC 0 dX4_isActor_3 (by decide) q1287 rfl ?_
  refine gf_sipush hG (nI 924) dX4_isActor_6 (by decide) ?_
  refine tf_iald hC dX4_isActor_9 (by decide) (fun x1 => ?_)
  refine gf_iconst hG (nI 1) dX4_isActor_10 (by decide) ?_
  refine gf_isub hG dX4_isActor_11 ?_
  refine tf_callS (f := fX4_in v1 (nI 0) (x1 - (nI 1)) t) (As := [.int v1, .int (nI 0), .int (x1 - (nI 1))]) (rest := []) (n := 3) (d' := 1) (st1 := fun r2 => [.int r2]) hC hnL (wX4_in (gLn X) Z hC.2.2.1 v1 (nI 0) (x1 - (nI 1)) t) dX4_isActor_12 (lw_S q1366 q1367 q78 q1368) (by decide +kernel) rfl (by decide) (by decide) (Nat.le_of_ble_eq_true rfl) (fun _ => rfl) (fun r2 t3 => ?_)
  exact gf_gd (fun hz => tf_ret hC hrt (nar_z hz) rfl dX4_isActor_15)
def fX4_at (v1 : Int32) (v2 : Int32) (t : tSt) : Option (Int32 × tSt) :=
  rv (trd t 0 ((v1 * (nI 77)) + v2)) (fun x1 =>
  some (x1, t)
  )
set_option maxHeartbeats 4000000 in
theorem wX4_at (l : Launch) (Z : tZ) (hj : tInj Z) (v1 : Int32) (v2 : Int32) (t : tSt)  : ∀ (r : Int32) (t' : tSt), fX4_at v1 v2 t = some (r, t') → tCt l Z yX4_at cX4_at 3 (some .int) 1 [.ref (Z.2.2.2 18), .int v1, .int v2] t (some (.int r)) t' := by
  refine tmet (ρ := (fun x : Int32 => some (Value.int x))) (av := [.ref (Z.2.2.2 18), .int v1, .int v2]) hj (by decide +kernel) (Nat.le_of_ble_eq_true rfl) (lv_args_cat (List.forall_mem_cons.mpr ⟨rfl, List.forall_mem_cons.mpr ⟨rfl, List.forall_mem_cons.mpr ⟨rfl, fun _ h => absurd h List.not_mem_nil⟩⟩⟩)) ?_
  intro X hln hC hnL hrt
  subst hln
  have hG := hC.1
  show GF X (tM Z X 3 (fun x : Int32 => some (Value.int x))) _ t 0 [(0, .ref (Z.2.2.2 18)), (1, .int v1), (2, .int v2)] []
  unfold fX4_at
  refine gf_aload_n hG dX4_at_0 rfl rfl ?_
  refine tf_get hC 0 dX4_at_1 (by decide) q1287 rfl ?_
  refine gf_iload_n hG dX4_at_4 rfl rfl ?_
  refine gf_bipush hG (nI 77) dX4_at_5 (by decide) ?_
  refine gf_imul hG dX4_at_7 ?_
  refine gf_iload_n hG dX4_at_8 rfl rfl ?_
  refine gf_iadd hG dX4_at_9 ?_
  refine tf_iald hC dX4_at_10 (by decide) (fun x1 => ?_)
  exact tf_ret hC hrt rfl rfl dX4_at_11
def fX4_isLive (v1 : Int32) (t : tSt) : Option (Int32 × tSt) :=
  ob (fX4_at v1 (nI 5) t) (fun r1 t2 =>
  if r1 = (nI 1) then
    some ((nI 1), t2)
  else
    some ((nI 0), t2)
  )
set_option maxHeartbeats 4000000 in
theorem wX4_isLive (l : Launch) (Z : tZ) (hj : tInj Z) (v1 : Int32) (t : tSt)  : ∀ (r : Int32) (t' : tSt), fX4_isLive v1 t = some (r, t') → tCt l Z yX4_isLive cX4_isLive 2 (some .boolean) 2 [.ref (Z.2.2.2 18), .int v1] t (some (.int r)) t' := by
  refine tmet (ρ := (fun x : Int32 => some (Value.int x))) (av := [.ref (Z.2.2.2 18), .int v1]) hj (by decide +kernel) (Nat.le_of_ble_eq_true rfl) (lv_args_cat (List.forall_mem_cons.mpr ⟨rfl, List.forall_mem_cons.mpr ⟨rfl, fun _ h => absurd h List.not_mem_nil⟩⟩)) ?_
  intro X hln hC hnL hrt
  subst hln
  have hG := hC.1
  show GF X (tM Z X 2 (fun x : Int32 => some (Value.int x))) _ t 0 [(0, .ref (Z.2.2.2 18)), (1, .int v1)] []
  unfold fX4_isLive
  refine gf_aload_n hG dX4_isLive_0 rfl rfl ?_
  refine gf_iload_n hG dX4_isLive_1 rfl rfl ?_
  refine gf_iconst hG (nI 5) dX4_isLive_2 (by decide) ?_
  refine tf_callV (f := fX4_at v1 (nI 5) t) (As := [.int v1, .int (nI 5)]) (rest := []) (n := 2) (d' := 1) (st1 := fun r1 => [.int r1]) hC hnL (wX4_at (gLn X) Z hC.2.2.1 v1 (nI 5) t) dX4_isLive_3 (lw_V q1376 q1378 qs33 q78 q1379) (by decide +kernel) rfl (by decide) (by decide) (Nat.le_of_ble_eq_true rfl) (fun _ => rfl) (fun r1 t2 => ?_)
  refine gf_iconst hG (nI 1) dX4_isLive_6 (by decide) ?_
  refine gf_icmp_ne hG (tgt := 14) dX4_isLive_7 (by decide) ?_ ?_
  · refine gf_iconst hG (nI 1) dX4_isLive_10 (by decide) ?_
    refine gf_goto hG (tgt := 15) dX4_isLive_11 (by decide) ?_
    exact tf_ret hC hrt (by decide) rfl dX4_isLive_15
  · refine gf_iconst hG (nI 0) dX4_isLive_14 (by decide) ?_
    exact tf_ret hC hrt (by decide) rfl dX4_isLive_15
def fX4_isRule (v0 : Int32) (t : tSt) : Option (Int32 × tSt) :=
  ob (fX4_in v0 (nI 0) (nI 2999) t) (fun r1 t2 =>
  if r1 = 0 then
    some ((nI 0), t2)
  else
    ob (fX4_in (irm v0 (nI 100)) (nI 1) (nI 50) t2) (fun r3 t4 =>
    if r3 = 0 then
      some ((nI 0), t4)
    else
      some ((nI 1), t4)
    )
  )
set_option maxHeartbeats 4000000 in
theorem wX4_isRule (l : Launch) (Z : tZ) (hj : tInj Z) (v0 : Int32) (t : tSt)  : ∀ (r : Int32) (t' : tSt), fX4_isRule v0 t = some (r, t') → tCt l Z yX4_isRule cX4_isRule 1 (some .boolean) 2 [.int v0] t (some (.int r)) t' := by
  refine tmet (ρ := (fun x : Int32 => some (Value.int x))) (av := [.int v0]) hj (by decide +kernel) (Nat.le_of_ble_eq_true rfl) (lv_args_cat (List.forall_mem_cons.mpr ⟨rfl, fun _ h => absurd h List.not_mem_nil⟩)) ?_
  intro X hln hC hnL hrt
  subst hln
  have hG := hC.1
  show GF X (tM Z X 1 (fun x : Int32 => some (Value.int x))) _ t 0 [(0, .int v0)] []
  unfold fX4_isRule
  refine gf_iload_n hG dX4_isRule_0 rfl rfl ?_
  refine gf_iconst hG (nI 0) dX4_isRule_1 (by decide) ?_
  refine gf_sipush hG (nI 2999) dX4_isRule_2 (by decide) ?_
  refine tf_callS (f := fX4_in v0 (nI 0) (nI 2999) t) (As := [.int v0, .int (nI 0), .int (nI 2999)]) (rest := []) (n := 3) (d' := 1) (st1 := fun r1 => [.int r1]) hC hnL (wX4_in (gLn X) Z hC.2.2.1 v0 (nI 0) (nI 2999) t) dX4_isRule_5 (lw_S q1366 q1367 q78 q1368) (by decide +kernel) rfl (by decide) (by decide) (Nat.le_of_ble_eq_true rfl) (fun _ => rfl) (fun r1 t2 => ?_)
  refine gf_if_eq hG (tgt := 28) dX4_isRule_8 (by decide) ?_ ?_
  · refine gf_iconst hG (nI 0) dX4_isRule_28 (by decide) ?_
    exact tf_ret hC hrt (by decide) rfl dX4_isRule_29
  · refine gf_iload_n hG dX4_isRule_11 rfl rfl ?_
    refine gf_bipush hG (nI 100) dX4_isRule_12 (by decide) ?_
    refine gf_irem hG dX4_isRule_14 (by decide) ?_
    refine gf_iconst hG (nI 1) dX4_isRule_15 (by decide) ?_
    refine gf_bipush hG (nI 50) dX4_isRule_16 (by decide) ?_
    refine tf_callS (f := fX4_in (irm v0 (nI 100)) (nI 1) (nI 50) t2) (As := [.int (irm v0 (nI 100)), .int (nI 1), .int (nI 50)]) (rest := []) (n := 3) (d' := 1) (st1 := fun r3 => [.int r3]) hC hnL (wX4_in (gLn X) Z hC.2.2.1 (irm v0 (nI 100)) (nI 1) (nI 50) t2) dX4_isRule_18 (lw_S q1366 q1367 q78 q1368) (by decide +kernel) rfl (by decide) (by decide) (Nat.le_of_ble_eq_true rfl) (fun _ => rfl) (fun r3 t4 => ?_)
    refine gf_if_eq hG (tgt := 28) dX4_isRule_21 (by decide) ?_ ?_
    · refine gf_iconst hG (nI 0) dX4_isRule_28 (by decide) ?_
      exact tf_ret hC hrt (by decide) rfl dX4_isRule_29
    · refine gf_iconst hG (nI 1) dX4_isRule_24 (by decide) ?_
      refine gf_goto hG (tgt := 29) dX4_isRule_25 (by decide) ?_
      exact tf_ret hC hrt (by decide) rfl dX4_isRule_29
def fX4_canBe (v1 : Int32) (v2 : Int32) (v3 : Int32) (t : tSt) : Option (Int32 × tSt) :=
  jn (fun  (t1 : tSt) =>
    ob (fX4_in v2 (nI 0) (nI 9) t1) (fun r3 t4 =>
    if r3 = 0 then
      some ((-1 : Int32), t4)
    else
      ob (fX4_isRule v3 t4) (fun r5 t6 =>
      if r5 = 0 then
        some ((-1 : Int32), t6)
      else
        jn (fun  (t7 : tSt) =>
          rv (trd t7 0 (nI 924)) (fun x9 =>
          if x9 = (nI 12) then
            some ((-3 : Int32), t7)
          else
            some ((nI 0), t7)
          )
          ) (fun (j8 : tSt → Option (Int32 × tSt)) =>
          if v1 < 0 then
            j8 t6
          else
            ob (fX4_isLive v1 t6) (fun r10 t11 =>
            if r10 = 0 then
              some ((-5 : Int32), t11)
            else
              j8 t11
            )
          )
      )
    )
    ) (fun (j2 : tSt → Option (Int32 × tSt)) =>
    if v1 = (-1 : Int32) then
      rv (trd t 0 (nI 924)) (fun x12 =>
      if x12 = 0 then
        j2 t
      else
        some ((-1 : Int32), t)
      )
    else
      ob (fX4_isActor v1 t) (fun r13 t14 =>
      if r13 = 0 then
        some ((-1 : Int32), t14)
      else
        j2 t14
      )
    )
set_option maxHeartbeats 4000000 in
theorem wX4_canBe (l : Launch) (Z : tZ) (hj : tInj Z) (v1 : Int32) (v2 : Int32) (v3 : Int32) (t : tSt)  : ∀ (r : Int32) (t' : tSt), fX4_canBe v1 v2 v3 t = some (r, t') → tCt l Z yX4_canBe cX4_canBe 4 (some .int) 3 [.ref (Z.2.2.2 18), .int v1, .int v2, .int v3] t (some (.int r)) t' := by
  refine tmet (ρ := (fun x : Int32 => some (Value.int x))) (av := [.ref (Z.2.2.2 18), .int v1, .int v2, .int v3]) hj (by decide +kernel) (Nat.le_of_ble_eq_true rfl) (lv_args_cat (List.forall_mem_cons.mpr ⟨rfl, List.forall_mem_cons.mpr ⟨rfl, List.forall_mem_cons.mpr ⟨rfl, List.forall_mem_cons.mpr ⟨rfl, fun _ h => absurd h List.not_mem_nil⟩⟩⟩⟩)) ?_
  intro X hln hC hnL hrt
  subst hln
  have hG := hC.1
  show GF X (tM Z X 4 (fun x : Int32 => some (Value.int x))) _ t 0 [(0, .ref (Z.2.2.2 18)), (1, .int v1), (2, .int v2), (3, .int v3)] []
  unfold fX4_canBe
  refine gf_iload_n hG dX4_canBe_0 rfl rfl ?_
  refine gf_iconst hG (-1 : Int32) dX4_canBe_1 (by decide) ?_
  refine gf_jn (fun j_ => ∀  (t1 : tSt), GF X (tM Z X 4 (fun x : Int32 => some (Value.int x))) (j_ t1) t1 27 [(0, .ref (Z.2.2.2 18)), (1, .int v1), (2, .int v2), (3, .int v3)] []) (fun t1 => ?_) (fun j2 hj2 => ?_)
  · refine gf_iload_n hG dX4_canBe_27 rfl rfl ?_
    refine gf_iconst hG (nI 0) dX4_canBe_28 (by decide) ?_
    refine gf_bipush hG (nI 9) dX4_canBe_29 (by decide) ?_
    refine tf_callS (f := fX4_in v2 (nI 0) (nI 9) t1) (As := [.int v2, .int (nI 0), .int (nI 9)]) (rest := []) (n := 3) (d' := 1) (st1 := fun r3 => [.int r3]) hC hnL (wX4_in (gLn X) Z hC.2.2.1 v2 (nI 0) (nI 9) t1) dX4_canBe_31 (lw_S q1366 q1367 q78 q1368) (by decide +kernel) rfl (by decide) (by decide) (Nat.le_of_ble_eq_true rfl) (fun _ => rfl) (fun r3 t4 => ?_)
    refine gf_if_eq hG (tgt := 44) dX4_canBe_34 (by decide) ?_ ?_
    · refine gf_iconst hG (-1 : Int32) dX4_canBe_44 (by decide) ?_
      exact tf_ret hC hrt rfl rfl dX4_canBe_45
    · refine gf_iload_n hG dX4_canBe_37 rfl rfl ?_
      refine tf_callS (f := fX4_isRule v3 t4) (As := [.int v3]) (rest := []) (n := 1) (d' := 2) (st1 := fun r5 => [.int r5]) hC hnL (wX4_isRule (gLn X) Z hC.2.2.1 v3 t4) dX4_canBe_38 (lw_S q1369 q1370 q78 q1371) (by decide +kernel) rfl (by decide) (by decide) (Nat.le_of_ble_eq_true rfl) (fun _ => rfl) (fun r5 t6 => ?_)
      refine gf_if_ne hG (tgt := 46) dX4_canBe_41 (by decide) ?_ ?_
      · refine gf_iconst hG (-1 : Int32) dX4_canBe_44 (by decide) ?_
        exact tf_ret hC hrt rfl rfl dX4_canBe_45
      · refine gf_iload_n hG dX4_canBe_46 rfl rfl ?_
        refine gf_jn (fun j_ => ∀  (t7 : tSt), GF X (tM Z X 4 (fun x : Int32 => some (Value.int x))) (j_ t7) t7 63 [(0, .ref (Z.2.2.2 18))] []) (fun t7 => ?_) (fun j8 hj8 => ?_)
        · refine gf_aload_n hG dX4_canBe_63 rfl rfl ?_
          refine tf_get hC 0 dX4_canBe_64 (by decide) q1287 rfl ?_
          refine gf_sipush hG (nI 924) dX4_canBe_67 (by decide) ?_
          refine tf_iald hC dX4_canBe_70 (by decide) (fun x9 => ?_)
          refine gf_bipush hG (nI 12) dX4_canBe_71 (by decide) ?_
          refine gf_icmp_ne hG (tgt := 81) dX4_canBe_73 (by decide) ?_ ?_
          · refine gf_bipush hG (-3 : Int32) dX4_canBe_76 (by decide) ?_
            refine gf_goto hG (tgt := 82) dX4_canBe_78 (by decide) ?_
            exact tf_ret hC hrt rfl rfl dX4_canBe_82
          · refine gf_iconst hG (nI 0) dX4_canBe_81 (by decide) ?_
            exact tf_ret hC hrt rfl rfl dX4_canBe_82
        · refine gf_if_lt hG (tgt := 63) dX4_canBe_47 (by decide) ?_ ?_
          · refine gf_sub [0] rfl ?_
            exact hj8 t6
          · refine gf_aload_n hG dX4_canBe_50 rfl rfl ?_
            refine gf_iload_n hG dX4_canBe_51 rfl rfl ?_
            refine tf_callV (f := fX4_isLive v1 t6) (As := [.int v1]) (rest := []) (n := 1) (d' := 2) (st1 := fun r10 => [.int r10]) hC hnL (wX4_isLive (gLn X) Z hC.2.2.1 v1 t6) dX4_canBe_52 (lw_V q1372 q1374 qs32 q78 q1375) (by decide +kernel) rfl (by decide) (by decide) (Nat.le_of_ble_eq_true rfl) (fun _ => rfl) (fun r10 t11 => ?_)
            refine gf_if_ne hG (tgt := 63) dX4_canBe_55 (by decide) ?_ ?_
            · refine gf_bipush hG (-5 : Int32) dX4_canBe_58 (by decide) ?_
              refine gf_goto hG (tgt := 82) dX4_canBe_60 (by decide) ?_
              exact tf_ret hC hrt rfl rfl dX4_canBe_82
            · refine gf_sub [0] rfl ?_
              exact hj8 t11
  · refine gf_icmp_ne hG (tgt := 19) dX4_canBe_2 (by decide) ?_ ?_
    · refine gf_aload_n hG dX4_canBe_5 rfl rfl ?_
      refine tf_get hC 0 dX4_canBe_6 (by decide) q1287 rfl ?_
      refine gf_sipush hG (nI 924) dX4_canBe_9 (by decide) ?_
      refine tf_iald hC dX4_canBe_12 (by decide) (fun x12 => ?_)
      refine gf_if_ne hG (tgt := 44) dX4_canBe_13 (by decide) ?_ ?_
      · refine gf_goto hG (tgt := 27) dX4_canBe_16 (by decide) ?_
        exact hj2 t
      · refine gf_iconst hG (-1 : Int32) dX4_canBe_44 (by decide) ?_
        exact tf_ret hC hrt rfl rfl dX4_canBe_45
    · refine gf_aload_n hG dX4_canBe_19 rfl rfl ?_
      refine gf_iload_n hG dX4_canBe_20 rfl rfl ?_
      refine tf_callV (f := fX4_isActor v1 t) (As := [.int v1]) (rest := []) (n := 1) (d' := 2) (st1 := fun r13 => [.int r13]) hC hnL (wX4_isActor (gLn X) Z hC.2.2.1 v1 t) dX4_canBe_21 (lw_V q1362 q1364 qs31 q78 q1365) (by decide +kernel) rfl (by decide) (by decide) (Nat.le_of_ble_eq_true rfl) (fun _ => rfl) (fun r13 t14 => ?_)
      refine gf_if_eq hG (tgt := 44) dX4_canBe_24 (by decide) ?_ ?_
      · refine gf_iconst hG (-1 : Int32) dX4_canBe_44 (by decide) ?_
        exact tf_ret hC hrt rfl rfl dX4_canBe_45
      · exact hj2 t14
def fX4_sets (v1 : Int32) (v2 : Int32) (v3 : Int32) (t : tSt) : Option (Unit × tSt) :=
  rv (twr t 0 ((v1 * (nI 77)) + v2) v3) (fun t1 =>
  some ((), t1)
  )
set_option maxHeartbeats 4000000 in
theorem wX4_sets (l : Launch) (Z : tZ) (hj : tInj Z) (v1 : Int32) (v2 : Int32) (v3 : Int32) (t : tSt)  : ∀ (r : Unit) (t' : tSt), fX4_sets v1 v2 v3 t = some (r, t') → tCt l Z yX4_sets cX4_sets 4 none 1 [.ref (Z.2.2.2 18), .int v1, .int v2, .int v3] t none t' := by
  refine tmet (ρ := (fun _ : Unit => (none : Option Value))) (av := [.ref (Z.2.2.2 18), .int v1, .int v2, .int v3]) hj (by decide +kernel) (Nat.le_of_ble_eq_true rfl) (lv_args_cat (List.forall_mem_cons.mpr ⟨rfl, List.forall_mem_cons.mpr ⟨rfl, List.forall_mem_cons.mpr ⟨rfl, List.forall_mem_cons.mpr ⟨rfl, fun _ h => absurd h List.not_mem_nil⟩⟩⟩⟩)) ?_
  intro X hln hC hnL hrt
  subst hln
  have hG := hC.1
  show GF X (tM Z X 4 (fun _ : Unit => (none : Option Value))) _ t 0 [(0, .ref (Z.2.2.2 18)), (1, .int v1), (2, .int v2), (3, .int v3)] []
  unfold fX4_sets
  refine gf_aload_n hG dX4_sets_0 rfl rfl ?_
  refine tf_get hC 0 dX4_sets_1 (by decide) q1287 rfl ?_
  refine gf_iload_n hG dX4_sets_4 rfl rfl ?_
  refine gf_bipush hG (nI 77) dX4_sets_5 (by decide) ?_
  refine gf_imul hG dX4_sets_7 ?_
  refine gf_iload_n hG dX4_sets_8 rfl rfl ?_
  refine gf_iadd hG dX4_sets_9 ?_
  refine gf_iload_n hG dX4_sets_10 rfl rfl ?_
  refine tf_iast hC dX4_sets_11 (by decide) (fun t1 => ?_)
  exact tf_vret hC hrt rfl dX4_sets_12
def fX4_actor_L35 (v1 : Int32) (v2 : Int32) (v3 : Int32) (v5 : Int32) (kx : tSt → Option (Int32 × tSt)) : Nat → Int32 → tSt → Option (Int32 × tSt)
  | 0, _, _ => none
  | k + 1, v6, t =>
    if v6 < (nI 77) then
      ob (fX4_sets v5 v6 (nI 0) t) (fun r5 t6 =>
      letv (v6 + (nI 1)) (fun y7 =>
      fX4_actor_L35 v1 v2 v3 v5 kx k y7 t6
      )
      )
    else
      kx t
set_option maxHeartbeats 4000000 in
theorem gfX4_actor_L35 {X : gCx} {Z : tZ} (hC : tOk X Z RX4 cX4_actor 4) (hnL : gLoc X = 7) (hrt : gRet X = (some .int)) (v1 : Int32) (v2 : Int32) (v3 : Int32) (v5 : Int32)  (kx : tSt → Option (Int32 × tSt)) (hkx : ∀  (t : tSt), GF X (tM Z X 7 (fun x : Int32 => some (Value.int x))) (kx t) t 57 [(0, .ref (Z.2.2.2 18)), (1, .int v1), (2, .int v2), (3, .int v3), (5, .int v5)] []) : ∀ (k : Nat) (v6 : Int32) (t : tSt), GF X (tM Z X 7 (fun x : Int32 => some (Value.int x))) (fX4_actor_L35 v1 v2 v3 v5 kx k v6 t) t 35 [(0, .ref (Z.2.2.2 18)), (1, .int v1), (2, .int v2), (3, .int v3), (5, .int v5), (6, .int v6)] [] := by
  have hG := hC.1
  intro k
  induction k with
  | zero => intro v6 t; exact gf_none
  | succ k ih =>
    intro v6 t
    rw [fX4_actor_L35]
    refine gf_iload hG dX4_actor_35 rfl ?_
    refine gf_bipush hG (nI 77) dX4_actor_37 (by decide) ?_
    refine gf_icmp_ge hG (tgt := 57) dX4_actor_39 (by decide) ?_ ?_
    · refine gf_aload_n hG dX4_actor_42 rfl rfl ?_
      refine gf_iload hG dX4_actor_43 rfl ?_
      refine gf_iload hG dX4_actor_45 rfl ?_
      refine gf_iconst hG (nI 0) dX4_actor_47 (by decide) ?_
      refine tf_callV (f := fX4_sets v5 v6 (nI 0) t) (As := [.int v5, .int v6, .int (nI 0)]) (rest := []) (n := 3) (d' := 1) (st1 := fun _ => []) hC hnL (wX4_sets (gLn X) Z hC.2.2.1 v5 v6 (nI 0) t) dX4_actor_48 (lw_V q1380 q1382 qs34 q78 q1383) (by decide +kernel) rfl (by decide) (by decide) (Nat.le_of_ble_eq_true rfl) (fun _ => rfl) (fun r5 t6 => ?_)
      refine gf_letiinc hG (c := (nI 1)) (lv' := fun y7 => [(0, .ref (Z.2.2.2 18)), (1, .int v1), (2, .int v2), (3, .int v3), (5, .int v5), (6, .int y7)]) dX4_actor_51 rfl (by decide) (Nat.le_of_ble_eq_true rfl) (fun _ => rfl) (fun y7 => ?_)
      refine gf_goto hG (tgt := 35) dX4_actor_54 (by decide) ?_
      exact ih y7 t6
    · refine gf_sub [0, 1, 2, 3, 4] rfl ?_
      exact hkx t
def fX4_actor (v1 : Int32) (v2 : Int32) (v3 : Int32) (t : tSt) : Option (Int32 × tSt) :=
  ob (fX4_canBe v1 v2 v3 t) (fun r1 t2 =>
  if r1 = 0 then
    rv (trd t2 0 (nI 924)) (fun x3 =>
    rv (twr t2 0 (nI 924) (x3 + (nI 1))) (fun t4 =>
    fX4_actor_L35 v1 v2 v3 x3 (fun  (t8 : tSt) =>
      ob (fX4_sets x3 (nI 0) v1 t8) (fun r9 t10 =>
      ob (fX4_sets x3 (nI 1) v2 t10) (fun r11 t12 =>
      ob (fX4_sets x3 (nI 2) (v3 / (nI 1000)) t12) (fun r13 t14 =>
      ob (fX4_sets x3 (nI 3) (irm (v3 / (nI 100)) (nI 10)) t14) (fun r15 t16 =>
      ob (fX4_sets x3 (nI 4) (irm v3 (nI 100)) t16) (fun r17 t18 =>
      ob (fX4_sets x3 (nI 5) (nI 1) t18) (fun r19 t20 =>
      ob (fX4_sets x3 (nI 7) (nI 1) t20) (fun r21 t22 =>
      ob (fX4_sets x3 (nI 8) v2 t22) (fun r23 t24 =>
      some (x3, t24)
      )
      )
      )
      )
      )
      )
      )
      )
      ) FU (nI 0) t4
    )
    )
  else
    some (r1, t2)
  )
set_option maxHeartbeats 4000000 in
theorem wX4_actor (l : Launch) (Z : tZ) (hj : tInj Z) (v1 : Int32) (v2 : Int32) (v3 : Int32) (t : tSt)  : ∀ (r : Int32) (t' : tSt), fX4_actor v1 v2 v3 t = some (r, t') → tCt l Z yX4_actor cX4_actor 7 (some .int) 4 [.ref (Z.2.2.2 18), .int v1, .int v2, .int v3] t (some (.int r)) t' := by
  refine tmet (ρ := (fun x : Int32 => some (Value.int x))) (av := [.ref (Z.2.2.2 18), .int v1, .int v2, .int v3]) hj (by decide +kernel) (Nat.le_of_ble_eq_true rfl) (lv_args_cat (List.forall_mem_cons.mpr ⟨rfl, List.forall_mem_cons.mpr ⟨rfl, List.forall_mem_cons.mpr ⟨rfl, List.forall_mem_cons.mpr ⟨rfl, fun _ h => absurd h List.not_mem_nil⟩⟩⟩⟩)) ?_
  intro X hln hC hnL hrt
  subst hln
  have hG := hC.1
  show GF X (tM Z X 7 (fun x : Int32 => some (Value.int x))) _ t 0 [(0, .ref (Z.2.2.2 18)), (1, .int v1), (2, .int v2), (3, .int v3)] []
  unfold fX4_actor
  refine gf_aload_n hG dX4_actor_0 rfl rfl ?_
  refine gf_iload_n hG dX4_actor_1 rfl rfl ?_
  refine gf_iload_n hG dX4_actor_2 rfl rfl ?_
  refine gf_iload_n hG dX4_actor_3 rfl rfl ?_
  refine tf_callV (f := fX4_canBe v1 v2 v3 t) (As := [.int v1, .int v2, .int v3]) (rest := []) (n := 3) (d' := 3) (st1 := fun r1 => [.int r1]) hC hnL (wX4_canBe (gLn X) Z hC.2.2.1 v1 v2 v3 t) dX4_actor_4 (lw_V q1358 q1360 qs30 q78 q1361) (by decide +kernel) rfl (by decide) (by decide) (Nat.le_of_ble_eq_true rfl) (fun _ => rfl) (fun r1 t2 => ?_)
  refine gf_istore hG dX4_actor_7 (Nat.le_of_ble_eq_true rfl) (lv' := [(0, _), (1, _), (2, _), (3, _), (4, _)]) rfl ?_
  refine gf_iload hG dX4_actor_9 rfl ?_
  refine gf_if_eq hG (tgt := 17) dX4_actor_11 (by decide) ?_ ?_
  · refine gf_aload_n hG dX4_actor_17 rfl rfl ?_
    refine tf_get hC 0 dX4_actor_18 (by decide) q1287 rfl ?_
    refine gf_sipush hG (nI 924) dX4_actor_21 (by decide) ?_
    refine gf_dup2 hG dX4_actor_24 rfl rfl ?_
    refine tf_iald hC dX4_actor_25 (by decide) (fun x3 => ?_)
    refine gf_dup_x2 hG dX4_actor_26 rfl rfl rfl ?_
    refine gf_iconst hG (nI 1) dX4_actor_27 (by decide) ?_
    refine gf_iadd hG dX4_actor_28 ?_
    refine tf_iast hC dX4_actor_29 (by decide) (fun t4 => ?_)
    refine gf_istore hG dX4_actor_30 (Nat.le_of_ble_eq_true rfl) (lv' := [(0, _), (1, _), (2, _), (3, _), (4, _), (5, _)]) rfl ?_
    refine gf_iconst hG (nI 0) dX4_actor_32 (by decide) ?_
    refine gf_istore hG dX4_actor_33 (Nat.le_of_ble_eq_true rfl) (lv' := [(0, _), (1, _), (2, _), (3, _), (4, _), (5, _), (6, _)]) rfl ?_
    refine gf_sub [0, 1, 2, 3, 5, 6] rfl ?_
    refine gfX4_actor_L35 hC hnL hrt v1 v2 v3 x3 _ (fun t8 => ?_) FU (nI 0) t4
    refine gf_aload_n hG dX4_actor_57 rfl rfl ?_
    refine gf_iload hG dX4_actor_58 rfl ?_
    refine gf_iconst hG (nI 0) dX4_actor_60 (by decide) ?_
    refine gf_iload_n hG dX4_actor_61 rfl rfl ?_
    refine tf_callV (f := fX4_sets x3 (nI 0) v1 t8) (As := [.int x3, .int (nI 0), .int v1]) (rest := []) (n := 3) (d' := 1) (st1 := fun _ => []) hC hnL (wX4_sets (gLn X) Z hC.2.2.1 x3 (nI 0) v1 t8) dX4_actor_62 (lw_V q1380 q1382 qs34 q78 q1383) (by decide +kernel) rfl (by decide) (by decide) (Nat.le_of_ble_eq_true rfl) (fun _ => rfl) (fun r9 t10 => ?_)
    refine gf_aload_n hG dX4_actor_65 rfl rfl ?_
    refine gf_iload hG dX4_actor_66 rfl ?_
    refine gf_iconst hG (nI 1) dX4_actor_68 (by decide) ?_
    refine gf_iload_n hG dX4_actor_69 rfl rfl ?_
    refine tf_callV (f := fX4_sets x3 (nI 1) v2 t10) (As := [.int x3, .int (nI 1), .int v2]) (rest := []) (n := 3) (d' := 1) (st1 := fun _ => []) hC hnL (wX4_sets (gLn X) Z hC.2.2.1 x3 (nI 1) v2 t10) dX4_actor_70 (lw_V q1380 q1382 qs34 q78 q1383) (by decide +kernel) rfl (by decide) (by decide) (Nat.le_of_ble_eq_true rfl) (fun _ => rfl) (fun r11 t12 => ?_)
    refine gf_aload_n hG dX4_actor_73 rfl rfl ?_
    refine gf_iload hG dX4_actor_74 rfl ?_
    refine gf_iconst hG (nI 2) dX4_actor_76 (by decide) ?_
    refine gf_iload_n hG dX4_actor_77 rfl rfl ?_
    refine gf_sipush hG (nI 1000) dX4_actor_78 (by decide) ?_
    refine gf_idiv hG dX4_actor_81 (by decide) ?_
    refine tf_callV (f := fX4_sets x3 (nI 2) (v3 / (nI 1000)) t12) (As := [.int x3, .int (nI 2), .int (v3 / (nI 1000))]) (rest := []) (n := 3) (d' := 1) (st1 := fun _ => []) hC hnL (wX4_sets (gLn X) Z hC.2.2.1 x3 (nI 2) (v3 / (nI 1000)) t12) dX4_actor_82 (lw_V q1380 q1382 qs34 q78 q1383) (by decide +kernel) rfl (by decide) (by decide) (Nat.le_of_ble_eq_true rfl) (fun _ => rfl) (fun r13 t14 => ?_)
    refine gf_aload_n hG dX4_actor_85 rfl rfl ?_
    refine gf_iload hG dX4_actor_86 rfl ?_
    refine gf_iconst hG (nI 3) dX4_actor_88 (by decide) ?_
    refine gf_iload_n hG dX4_actor_89 rfl rfl ?_
    refine gf_bipush hG (nI 100) dX4_actor_90 (by decide) ?_
    refine gf_idiv hG dX4_actor_92 (by decide) ?_
    refine gf_bipush hG (nI 10) dX4_actor_93 (by decide) ?_
    refine gf_irem hG dX4_actor_95 (by decide) ?_
    refine tf_callV (f := fX4_sets x3 (nI 3) (irm (v3 / (nI 100)) (nI 10)) t14) (As := [.int x3, .int (nI 3), .int (irm (v3 / (nI 100)) (nI 10))]) (rest := []) (n := 3) (d' := 1) (st1 := fun _ => []) hC hnL (wX4_sets (gLn X) Z hC.2.2.1 x3 (nI 3) (irm (v3 / (nI 100)) (nI 10)) t14) dX4_actor_96 (lw_V q1380 q1382 qs34 q78 q1383) (by decide +kernel) rfl (by decide) (by decide) (Nat.le_of_ble_eq_true rfl) (fun _ => rfl) (fun r15 t16 => ?_)
    refine gf_aload_n hG dX4_actor_99 rfl rfl ?_
    refine gf_iload hG dX4_actor_100 rfl ?_
    refine gf_iconst hG (nI 4) dX4_actor_102 (by decide) ?_
    refine gf_iload_n hG dX4_actor_103 rfl rfl ?_
    refine gf_bipush hG (nI 100) dX4_actor_104 (by decide) ?_
    refine gf_irem hG dX4_actor_106 (by decide) ?_
    refine tf_callV (f := fX4_sets x3 (nI 4) (irm v3 (nI 100)) t16) (As := [.int x3, .int (nI 4), .int (irm v3 (nI 100))]) (rest := []) (n := 3) (d' := 1) (st1 := fun _ => []) hC hnL (wX4_sets (gLn X) Z hC.2.2.1 x3 (nI 4) (irm v3 (nI 100)) t16) dX4_actor_107 (lw_V q1380 q1382 qs34 q78 q1383) (by decide +kernel) rfl (by decide) (by decide) (Nat.le_of_ble_eq_true rfl) (fun _ => rfl) (fun r17 t18 => ?_)
    refine gf_aload_n hG dX4_actor_110 rfl rfl ?_
    refine gf_iload hG dX4_actor_111 rfl ?_
    refine gf_iconst hG (nI 5) dX4_actor_113 (by decide) ?_
    refine gf_iconst hG (nI 1) dX4_actor_114 (by decide) ?_
    refine tf_callV (f := fX4_sets x3 (nI 5) (nI 1) t18) (As := [.int x3, .int (nI 5), .int (nI 1)]) (rest := []) (n := 3) (d' := 1) (st1 := fun _ => []) hC hnL (wX4_sets (gLn X) Z hC.2.2.1 x3 (nI 5) (nI 1) t18) dX4_actor_115 (lw_V q1380 q1382 qs34 q78 q1383) (by decide +kernel) rfl (by decide) (by decide) (Nat.le_of_ble_eq_true rfl) (fun _ => rfl) (fun r19 t20 => ?_)
    refine gf_aload_n hG dX4_actor_118 rfl rfl ?_
    refine gf_iload hG dX4_actor_119 rfl ?_
    refine gf_bipush hG (nI 7) dX4_actor_121 (by decide) ?_
    refine gf_iconst hG (nI 1) dX4_actor_123 (by decide) ?_
    refine tf_callV (f := fX4_sets x3 (nI 7) (nI 1) t20) (As := [.int x3, .int (nI 7), .int (nI 1)]) (rest := []) (n := 3) (d' := 1) (st1 := fun _ => []) hC hnL (wX4_sets (gLn X) Z hC.2.2.1 x3 (nI 7) (nI 1) t20) dX4_actor_124 (lw_V q1380 q1382 qs34 q78 q1383) (by decide +kernel) rfl (by decide) (by decide) (Nat.le_of_ble_eq_true rfl) (fun _ => rfl) (fun r21 t22 => ?_)
    refine gf_aload_n hG dX4_actor_127 rfl rfl ?_
    refine gf_iload hG dX4_actor_128 rfl ?_
    refine gf_bipush hG (nI 8) dX4_actor_130 (by decide) ?_
    refine gf_iload_n hG dX4_actor_132 rfl rfl ?_
    refine tf_callV (f := fX4_sets x3 (nI 8) v2 t22) (As := [.int x3, .int (nI 8), .int v2]) (rest := []) (n := 3) (d' := 1) (st1 := fun _ => []) hC hnL (wX4_sets (gLn X) Z hC.2.2.1 x3 (nI 8) v2 t22) dX4_actor_133 (lw_V q1380 q1382 qs34 q78 q1383) (by decide +kernel) rfl (by decide) (by decide) (Nat.le_of_ble_eq_true rfl) (fun _ => rfl) (fun r23 t24 => ?_)
    refine gf_iload hG dX4_actor_136 rfl ?_
    exact tf_ret hC hrt rfl rfl dX4_actor_138
  · refine gf_iload hG dX4_actor_14 rfl ?_
    exact tf_ret hC hrt rfl rfl dX4_actor_16
def fX4_isNumber (v0 : Int32) (t : tSt) : Option (Int32 × tSt) :=
  ob (fX4_in v0 (-99 : Int32) (nI 99) t) (fun r1 t2 =>
  gd (r1 = nI 0 ∨ r1 = nI 1) (some (r1, t2))
  )
set_option maxHeartbeats 4000000 in
theorem wX4_isNumber (l : Launch) (Z : tZ) (hj : tInj Z) (v0 : Int32) (t : tSt)  : ∀ (r : Int32) (t' : tSt), fX4_isNumber v0 t = some (r, t') → tCt l Z yX4_isNumber cX4_isNumber 1 (some .boolean) 2 [.int v0] t (some (.int r)) t' := by
  refine tmet (ρ := (fun x : Int32 => some (Value.int x))) (av := [.int v0]) hj (by decide +kernel) (Nat.le_of_ble_eq_true rfl) (lv_args_cat (List.forall_mem_cons.mpr ⟨rfl, fun _ h => absurd h List.not_mem_nil⟩)) ?_
  intro X hln hC hnL hrt
  subst hln
  have hG := hC.1
  show GF X (tM Z X 1 (fun x : Int32 => some (Value.int x))) _ t 0 [(0, .int v0)] []
  unfold fX4_isNumber
  refine gf_iload_n hG dX4_isNumber_0 rfl rfl ?_
  refine gf_bipush hG (-99 : Int32) dX4_isNumber_1 (by decide) ?_
  refine gf_bipush hG (nI 99) dX4_isNumber_3 (by decide) ?_
  refine tf_callS (f := fX4_in v0 (-99 : Int32) (nI 99) t) (As := [.int v0, .int (-99 : Int32), .int (nI 99)]) (rest := []) (n := 3) (d' := 1) (st1 := fun r1 => [.int r1]) hC hnL (wX4_in (gLn X) Z hC.2.2.1 v0 (-99 : Int32) (nI 99) t) dX4_isNumber_5 (lw_S q1366 q1367 q78 q1368) (by decide +kernel) rfl (by decide) (by decide) (Nat.le_of_ble_eq_true rfl) (fun _ => rfl) (fun r1 t2 => ?_)
  exact gf_gd (fun hz => tf_ret hC hrt (nar_z hz) rfl dX4_isNumber_8)
def fX4_sends (v1 : Int32) (v2 : Int32) (v3 : Int32) (t : tSt) : Option (Int32 × tSt) :=
  ob (fX4_at v1 (nI 13) t) (fun r1 t2 =>
  ob (fX4_isLive v1 t2) (fun r3 t4 =>
  jn (fun  (t5 : tSt) =>
    rv (trd t5 0 (nI 927)) (fun x7 =>
    rv (twr t5 0 (nI 927) (x7 + (nI 1))) (fun t8 =>
    some ((nI 0), t8)
    )
    )
    ) (fun (j6 : tSt → Option (Int32 × tSt)) =>
    if r3 = 0 then
      j6 t4
    else
      if r1 = (nI 12) then
        j6 t4
      else
        ob (fX4_sets v1 ((nI 14) + ((nI 2) * r1)) v2 t4) (fun r9 t10 =>
        ob (fX4_sets v1 (((nI 14) + ((nI 2) * r1)) + (nI 1)) v3 t10) (fun r11 t12 =>
        ob (fX4_sets v1 (nI 13) (r1 + (nI 1)) t12) (fun r13 t14 =>
        some ((nI 1), t14)
        )
        )
        )
    )
  )
  )
set_option maxHeartbeats 4000000 in
theorem wX4_sends (l : Launch) (Z : tZ) (hj : tInj Z) (v1 : Int32) (v2 : Int32) (v3 : Int32) (t : tSt)  : ∀ (r : Int32) (t' : tSt), fX4_sends v1 v2 v3 t = some (r, t') → tCt l Z yX4_sends cX4_sends 5 (some .boolean) 3 [.ref (Z.2.2.2 18), .int v1, .int v2, .int v3] t (some (.int r)) t' := by
  refine tmet (ρ := (fun x : Int32 => some (Value.int x))) (av := [.ref (Z.2.2.2 18), .int v1, .int v2, .int v3]) hj (by decide +kernel) (Nat.le_of_ble_eq_true rfl) (lv_args_cat (List.forall_mem_cons.mpr ⟨rfl, List.forall_mem_cons.mpr ⟨rfl, List.forall_mem_cons.mpr ⟨rfl, List.forall_mem_cons.mpr ⟨rfl, fun _ h => absurd h List.not_mem_nil⟩⟩⟩⟩)) ?_
  intro X hln hC hnL hrt
  subst hln
  have hG := hC.1
  show GF X (tM Z X 5 (fun x : Int32 => some (Value.int x))) _ t 0 [(0, .ref (Z.2.2.2 18)), (1, .int v1), (2, .int v2), (3, .int v3)] []
  unfold fX4_sends
  refine gf_aload_n hG dX4_sends_0 rfl rfl ?_
  refine gf_iload_n hG dX4_sends_1 rfl rfl ?_
  refine gf_bipush hG (nI 13) dX4_sends_2 (by decide) ?_
  refine tf_callV (f := fX4_at v1 (nI 13) t) (As := [.int v1, .int (nI 13)]) (rest := []) (n := 2) (d' := 1) (st1 := fun r1 => [.int r1]) hC hnL (wX4_at (gLn X) Z hC.2.2.1 v1 (nI 13) t) dX4_sends_4 (lw_V q1376 q1378 qs33 q78 q1379) (by decide +kernel) rfl (by decide) (by decide) (Nat.le_of_ble_eq_true rfl) (fun _ => rfl) (fun r1 t2 => ?_)
  refine gf_istore hG dX4_sends_7 (Nat.le_of_ble_eq_true rfl) (lv' := [(0, _), (1, _), (2, _), (3, _), (4, _)]) rfl ?_
  refine gf_aload_n hG dX4_sends_9 rfl rfl ?_
  refine gf_iload_n hG dX4_sends_10 rfl rfl ?_
  refine tf_callV (f := fX4_isLive v1 t2) (As := [.int v1]) (rest := []) (n := 1) (d' := 2) (st1 := fun r3 => [.int r3]) hC hnL (wX4_isLive (gLn X) Z hC.2.2.1 v1 t2) dX4_sends_11 (lw_V q1372 q1374 qs32 q78 q1375) (by decide +kernel) rfl (by decide) (by decide) (Nat.le_of_ble_eq_true rfl) (fun _ => rfl) (fun r3 t4 => ?_)
  refine gf_jn (fun j_ => ∀  (t5 : tSt), GF X (tM Z X 5 (fun x : Int32 => some (Value.int x))) (j_ t5) t5 24 [(0, .ref (Z.2.2.2 18))] []) (fun t5 => ?_) (fun j6 hj6 => ?_)
  · refine gf_aload_n hG dX4_sends_24 rfl rfl ?_
    refine tf_get hC 0 dX4_sends_25 (by decide) q1287 rfl ?_
    refine gf_sipush hG (nI 927) dX4_sends_28 (by decide) ?_
    refine gf_dup2 hG dX4_sends_31 rfl rfl ?_
    refine tf_iald hC dX4_sends_32 (by decide) (fun x7 => ?_)
    refine gf_iconst hG (nI 1) dX4_sends_33 (by decide) ?_
    refine gf_iadd hG dX4_sends_34 ?_
    refine tf_iast hC dX4_sends_35 (by decide) (fun t8 => ?_)
    refine gf_iconst hG (nI 0) dX4_sends_36 (by decide) ?_
    exact tf_ret hC hrt (by decide) rfl dX4_sends_37
  · refine gf_if_eq hG (tgt := 24) dX4_sends_14 (by decide) ?_ ?_
    · refine gf_sub [0] rfl ?_
      exact hj6 t4
    · refine gf_iload hG dX4_sends_17 rfl ?_
      refine gf_bipush hG (nI 12) dX4_sends_19 (by decide) ?_
      refine gf_icmp_ne hG (tgt := 38) dX4_sends_21 (by decide) ?_ ?_
      · refine gf_sub [0] rfl ?_
        exact hj6 t4
      · refine gf_aload_n hG dX4_sends_38 rfl rfl ?_
        refine gf_iload_n hG dX4_sends_39 rfl rfl ?_
        refine gf_bipush hG (nI 14) dX4_sends_40 (by decide) ?_
        refine gf_iconst hG (nI 2) dX4_sends_42 (by decide) ?_
        refine gf_iload hG dX4_sends_43 rfl ?_
        refine gf_imul hG dX4_sends_45 ?_
        refine gf_iadd hG dX4_sends_46 ?_
        refine gf_iload_n hG dX4_sends_47 rfl rfl ?_
        refine tf_callV (f := fX4_sets v1 ((nI 14) + ((nI 2) * r1)) v2 t4) (As := [.int v1, .int ((nI 14) + ((nI 2) * r1)), .int v2]) (rest := []) (n := 3) (d' := 1) (st1 := fun _ => []) hC hnL (wX4_sets (gLn X) Z hC.2.2.1 v1 ((nI 14) + ((nI 2) * r1)) v2 t4) dX4_sends_48 (lw_V q1380 q1382 qs34 q78 q1383) (by decide +kernel) rfl (by decide) (by decide) (Nat.le_of_ble_eq_true rfl) (fun _ => rfl) (fun r9 t10 => ?_)
        refine gf_aload_n hG dX4_sends_51 rfl rfl ?_
        refine gf_iload_n hG dX4_sends_52 rfl rfl ?_
        refine gf_bipush hG (nI 14) dX4_sends_53 (by decide) ?_
        refine gf_iconst hG (nI 2) dX4_sends_55 (by decide) ?_
        refine gf_iload hG dX4_sends_56 rfl ?_
        refine gf_imul hG dX4_sends_58 ?_
        refine gf_iadd hG dX4_sends_59 ?_
        refine gf_iconst hG (nI 1) dX4_sends_60 (by decide) ?_
        refine gf_iadd hG dX4_sends_61 ?_
        refine gf_iload_n hG dX4_sends_62 rfl rfl ?_
        refine tf_callV (f := fX4_sets v1 (((nI 14) + ((nI 2) * r1)) + (nI 1)) v3 t10) (As := [.int v1, .int (((nI 14) + ((nI 2) * r1)) + (nI 1)), .int v3]) (rest := []) (n := 3) (d' := 1) (st1 := fun _ => []) hC hnL (wX4_sets (gLn X) Z hC.2.2.1 v1 (((nI 14) + ((nI 2) * r1)) + (nI 1)) v3 t10) dX4_sends_63 (lw_V q1380 q1382 qs34 q78 q1383) (by decide +kernel) rfl (by decide) (by decide) (Nat.le_of_ble_eq_true rfl) (fun _ => rfl) (fun r11 t12 => ?_)
        refine gf_aload_n hG dX4_sends_66 rfl rfl ?_
        refine gf_iload_n hG dX4_sends_67 rfl rfl ?_
        refine gf_bipush hG (nI 13) dX4_sends_68 (by decide) ?_
        refine gf_iload hG dX4_sends_70 rfl ?_
        refine gf_iconst hG (nI 1) dX4_sends_72 (by decide) ?_
        refine gf_iadd hG dX4_sends_73 ?_
        refine tf_callV (f := fX4_sets v1 (nI 13) (r1 + (nI 1)) t12) (As := [.int v1, .int (nI 13), .int (r1 + (nI 1))]) (rest := []) (n := 3) (d' := 1) (st1 := fun _ => []) hC hnL (wX4_sets (gLn X) Z hC.2.2.1 v1 (nI 13) (r1 + (nI 1)) t12) dX4_sends_74 (lw_V q1380 q1382 qs34 q78 q1383) (by decide +kernel) rfl (by decide) (by decide) (Nat.le_of_ble_eq_true rfl) (fun _ => rfl) (fun r13 t14 => ?_)
        refine gf_iconst hG (nI 1) dX4_sends_77 (by decide) ?_
        exact tf_ret hC hrt (by decide) rfl dX4_sends_78
def fX4_tell (v1 : Int32) (v2 : Int32) (v3 : Int32) (t : tSt) : Option (Int32 × tSt) :=
  ob (fX4_isActor v1 t) (fun r1 t2 =>
  if r1 = 0 then
    some ((-1 : Int32), t2)
  else
    jn (fun  (t3 : tSt) =>
      ob (fX4_isNumber v3 t3) (fun r5 t6 =>
      if r5 = 0 then
        some ((-1 : Int32), t6)
      else
        ob (fX4_sends v1 v2 v3 t6) (fun r7 t8 =>
        if r7 = 0 then
          some ((-5 : Int32), t8)
        else
          ob (fX4_at v1 (nI 13) t8) (fun r9 t10 =>
          some (r9, t10)
          )
        )
      )
      ) (fun (j4 : tSt → Option (Int32 × tSt)) =>
      if v2 = (-1 : Int32) then
        j4 t2
      else
        ob (fX4_isActor v2 t2) (fun r11 t12 =>
        if r11 = 0 then
          some ((-1 : Int32), t12)
        else
          j4 t12
        )
      )
  )
set_option maxHeartbeats 4000000 in
theorem wX4_tell (l : Launch) (Z : tZ) (hj : tInj Z) (v1 : Int32) (v2 : Int32) (v3 : Int32) (t : tSt)  : ∀ (r : Int32) (t' : tSt), fX4_tell v1 v2 v3 t = some (r, t') → tCt l Z yX4_tell cX4_tell 4 (some .int) 4 [.ref (Z.2.2.2 18), .int v1, .int v2, .int v3] t (some (.int r)) t' := by
  refine tmet (ρ := (fun x : Int32 => some (Value.int x))) (av := [.ref (Z.2.2.2 18), .int v1, .int v2, .int v3]) hj (by decide +kernel) (Nat.le_of_ble_eq_true rfl) (lv_args_cat (List.forall_mem_cons.mpr ⟨rfl, List.forall_mem_cons.mpr ⟨rfl, List.forall_mem_cons.mpr ⟨rfl, List.forall_mem_cons.mpr ⟨rfl, fun _ h => absurd h List.not_mem_nil⟩⟩⟩⟩)) ?_
  intro X hln hC hnL hrt
  subst hln
  have hG := hC.1
  show GF X (tM Z X 4 (fun x : Int32 => some (Value.int x))) _ t 0 [(0, .ref (Z.2.2.2 18)), (1, .int v1), (2, .int v2), (3, .int v3)] []
  unfold fX4_tell
  refine gf_aload_n hG dX4_tell_0 rfl rfl ?_
  refine gf_iload_n hG dX4_tell_1 rfl rfl ?_
  refine tf_callV (f := fX4_isActor v1 t) (As := [.int v1]) (rest := []) (n := 1) (d' := 2) (st1 := fun r1 => [.int r1]) hC hnL (wX4_isActor (gLn X) Z hC.2.2.1 v1 t) dX4_tell_2 (lw_V q1362 q1364 qs31 q78 q1365) (by decide +kernel) rfl (by decide) (by decide) (Nat.le_of_ble_eq_true rfl) (fun _ => rfl) (fun r1 t2 => ?_)
  refine gf_if_eq hG (tgt := 28) dX4_tell_5 (by decide) ?_ ?_
  · refine gf_iconst hG (-1 : Int32) dX4_tell_28 (by decide) ?_
    exact tf_ret hC hrt rfl rfl dX4_tell_29
  · refine gf_iload_n hG dX4_tell_8 rfl rfl ?_
    refine gf_iconst hG (-1 : Int32) dX4_tell_9 (by decide) ?_
    refine gf_jn (fun j_ => ∀  (t3 : tSt), GF X (tM Z X 4 (fun x : Int32 => some (Value.int x))) (j_ t3) t3 21 [(0, .ref (Z.2.2.2 18)), (1, .int v1), (2, .int v2), (3, .int v3)] []) (fun t3 => ?_) (fun j4 hj4 => ?_)
    · refine gf_iload_n hG dX4_tell_21 rfl rfl ?_
      refine tf_callS (f := fX4_isNumber v3 t3) (As := [.int v3]) (rest := []) (n := 1) (d' := 2) (st1 := fun r5 => [.int r5]) hC hnL (wX4_isNumber (gLn X) Z hC.2.2.1 v3 t3) dX4_tell_22 (lw_S q1388 q1389 q78 q1390) (by decide +kernel) rfl (by decide) (by decide) (Nat.le_of_ble_eq_true rfl) (fun _ => rfl) (fun r5 t6 => ?_)
      refine gf_if_ne hG (tgt := 30) dX4_tell_25 (by decide) ?_ ?_
      · refine gf_iconst hG (-1 : Int32) dX4_tell_28 (by decide) ?_
        exact tf_ret hC hrt rfl rfl dX4_tell_29
      · refine gf_aload_n hG dX4_tell_30 rfl rfl ?_
        refine gf_iload_n hG dX4_tell_31 rfl rfl ?_
        refine gf_iload_n hG dX4_tell_32 rfl rfl ?_
        refine gf_iload_n hG dX4_tell_33 rfl rfl ?_
        refine tf_callV (f := fX4_sends v1 v2 v3 t6) (As := [.int v1, .int v2, .int v3]) (rest := []) (n := 3) (d' := 3) (st1 := fun r7 => [.int r7]) hC hnL (wX4_sends (gLn X) Z hC.2.2.1 v1 v2 v3 t6) dX4_tell_34 (lw_V q1391 q1393 qs35 q78 q1394) (by decide +kernel) rfl (by decide) (by decide) (Nat.le_of_ble_eq_true rfl) (fun _ => rfl) (fun r7 t8 => ?_)
        refine gf_if_eq hG (tgt := 50) dX4_tell_37 (by decide) ?_ ?_
        · refine gf_bipush hG (-5 : Int32) dX4_tell_50 (by decide) ?_
          exact tf_ret hC hrt rfl rfl dX4_tell_52
        · refine gf_aload_n hG dX4_tell_40 rfl rfl ?_
          refine gf_iload_n hG dX4_tell_41 rfl rfl ?_
          refine gf_bipush hG (nI 13) dX4_tell_42 (by decide) ?_
          refine tf_callV (f := fX4_at v1 (nI 13) t8) (As := [.int v1, .int (nI 13)]) (rest := []) (n := 2) (d' := 1) (st1 := fun r9 => [.int r9]) hC hnL (wX4_at (gLn X) Z hC.2.2.1 v1 (nI 13) t8) dX4_tell_44 (lw_V q1376 q1378 qs33 q78 q1379) (by decide +kernel) rfl (by decide) (by decide) (Nat.le_of_ble_eq_true rfl) (fun _ => rfl) (fun r9 t10 => ?_)
          refine gf_goto hG (tgt := 52) dX4_tell_47 (by decide) ?_
          exact tf_ret hC hrt rfl rfl dX4_tell_52
    · refine gf_icmp_eq hG (tgt := 21) dX4_tell_10 (by decide) ?_ ?_
      · exact hj4 t2
      · refine gf_aload_n hG dX4_tell_13 rfl rfl ?_
        refine gf_iload_n hG dX4_tell_14 rfl rfl ?_
        refine tf_callV (f := fX4_isActor v2 t2) (As := [.int v2]) (rest := []) (n := 1) (d' := 2) (st1 := fun r11 => [.int r11]) hC hnL (wX4_isActor (gLn X) Z hC.2.2.1 v2 t2) dX4_tell_15 (lw_V q1362 q1364 qs31 q78 q1365) (by decide +kernel) rfl (by decide) (by decide) (Nat.le_of_ble_eq_true rfl) (fun _ => rfl) (fun r11 t12 => ?_)
        refine gf_if_eq hG (tgt := 28) dX4_tell_18 (by decide) ?_ ?_
        · refine gf_iconst hG (-1 : Int32) dX4_tell_28 (by decide) ?_
          exact tf_ret hC hrt rfl rfl dX4_tell_29
        · exact hj4 t12
def fX4_childrenOf_L4 (v1 : Int32) (kx : Int32 → tSt → Option (Int32 × tSt)) : Nat → Int32 → Int32 → tSt → Option (Int32 × tSt)
  | 0, _, _, _ => none
  | k + 1, v2, v3, t =>
    rv (trd t 0 (nI 924)) (fun x1 =>
    if v3 < x1 then
      ob (fX4_at v3 (nI 0) t) (fun r2 t3 =>
      jn (fun (x4 : Int32) (t5 : tSt) =>
        letv ((v2 ||| x4)) (fun y7 =>
        letv (v3 + (nI 1)) (fun y8 =>
        fX4_childrenOf_L4 v1 kx k y7 y8 t5
        )
        )
        ) (fun (j6 : Int32 → tSt → Option (Int32 × tSt)) =>
        if r2 = v1 then
          j6 (ishl32 (nI 1) v3) t3
        else
          j6 (nI 0) t3
        )
      )
    else
      kx v2 t
    )
set_option maxHeartbeats 4000000 in
theorem gfX4_childrenOf_L4 {X : gCx} {Z : tZ} (hC : tOk X Z RX4 cX4_childrenOf 2) (hnL : gLoc X = 4) (hrt : gRet X = (some .int)) (v1 : Int32)  (kx : Int32 → tSt → Option (Int32 × tSt)) (hkx : ∀ (v2 : Int32) (t : tSt), GF X (tM Z X 4 (fun x : Int32 => some (Value.int x))) (kx v2 t) t 42 [(2, .int v2)] []) : ∀ (k : Nat) (v2 : Int32) (v3 : Int32) (t : tSt), GF X (tM Z X 4 (fun x : Int32 => some (Value.int x))) (fX4_childrenOf_L4 v1 kx k v2 v3 t) t 4 [(0, .ref (Z.2.2.2 18)), (1, .int v1), (2, .int v2), (3, .int v3)] [] := by
  have hG := hC.1
  intro k
  induction k with
  | zero => intro v2 v3 t; exact gf_none
  | succ k ih =>
    intro v2 v3 t
    rw [fX4_childrenOf_L4]
    refine gf_iload_n hG dX4_childrenOf_4 rfl rfl ?_
    refine gf_aload_n hG dX4_childrenOf_5 rfl rfl ?_
    refine tf_get hC 0 dX4_childrenOf_6 (by decide) q1287 rfl ?_
    refine gf_sipush hG (nI 924) dX4_childrenOf_9 (by decide) ?_
    refine tf_iald hC dX4_childrenOf_12 (by decide) (fun x1 => ?_)
    refine gf_icmp_ge hG (tgt := 42) dX4_childrenOf_13 (by decide) ?_ ?_
    · refine gf_iload_n hG dX4_childrenOf_16 rfl rfl ?_
      refine gf_aload_n hG dX4_childrenOf_17 rfl rfl ?_
      refine gf_iload_n hG dX4_childrenOf_18 rfl rfl ?_
      refine gf_iconst hG (nI 0) dX4_childrenOf_19 (by decide) ?_
      refine tf_callV (f := fX4_at v3 (nI 0) t) (As := [.int v3, .int (nI 0)]) (rest := [.int v2]) (n := 2) (d' := 1) (st1 := fun r2 => [.int r2, .int v2]) hC hnL (wX4_at (gLn X) Z hC.2.2.1 v3 (nI 0) t) dX4_childrenOf_20 (lw_V q1376 q1378 qs33 q78 q1379) (by decide +kernel) rfl (by decide) (by decide) (Nat.le_of_ble_eq_true rfl) (fun _ => rfl) (fun r2 t3 => ?_)
      refine gf_iload_n hG dX4_childrenOf_23 rfl rfl ?_
      refine gf_jn (fun j_ => ∀ (x4 : Int32) (t5 : tSt), GF X (tM Z X 4 (fun x : Int32 => some (Value.int x))) (j_ x4 t5) t5 34 [(0, .ref (Z.2.2.2 18)), (1, .int v1), (3, .int v3)] [.int x4, .int v2]) (fun x4 t5 => ?_) (fun j6 hj6 => ?_)
      · refine gf_ior hG dX4_childrenOf_34 ?_
        refine gf_letv (fun y7 hy7 => ?_)
        refine gf_istore_n hG dX4_childrenOf_35 rfl (Nat.le_of_ble_eq_true rfl) (lv' := [(0, _), (1, _), (2, _), (3, _)]) rfl ?_
        refine gf_letiinc hG (c := (nI 1)) (lv' := fun y8 => [(0, .ref (Z.2.2.2 18)), (1, .int v1), (2, .int y7), (3, .int y8)]) dX4_childrenOf_36 rfl (by decide) (Nat.le_of_ble_eq_true rfl) (fun _ => rfl) (fun y8 => ?_)
        refine gf_goto hG (tgt := 4) dX4_childrenOf_39 (by decide) ?_
        exact ih y7 y8 t5
      · refine gf_icmp_ne hG (tgt := 33) dX4_childrenOf_24 (by decide) ?_ ?_
        · refine gf_iconst hG (nI 1) dX4_childrenOf_27 (by decide) ?_
          refine gf_iload_n hG dX4_childrenOf_28 rfl rfl ?_
          refine gf_ishl hG dX4_childrenOf_29 ?_
          refine gf_goto hG (tgt := 34) dX4_childrenOf_30 (by decide) ?_
          refine gf_sub [0, 1, 3] rfl ?_
          exact hj6 (ishl32 (nI 1) v3) t3
        · refine gf_iconst hG (nI 0) dX4_childrenOf_33 (by decide) ?_
          refine gf_sub [0, 1, 3] rfl ?_
          exact hj6 (nI 0) t3
    · refine gf_sub [2] rfl ?_
      exact hkx v2 t
def fX4_childrenOf (v1 : Int32) (t : tSt) : Option (Int32 × tSt) :=
  fX4_childrenOf_L4 v1 (fun (v2_9 : Int32) (t10 : tSt) =>
    some (v2_9, t10)
    ) FU (nI 0) (nI 0) t
set_option maxHeartbeats 4000000 in
theorem wX4_childrenOf (l : Launch) (Z : tZ) (hj : tInj Z) (v1 : Int32) (t : tSt)  : ∀ (r : Int32) (t' : tSt), fX4_childrenOf v1 t = some (r, t') → tCt l Z yX4_childrenOf cX4_childrenOf 4 (some .int) 2 [.ref (Z.2.2.2 18), .int v1] t (some (.int r)) t' := by
  refine tmet (ρ := (fun x : Int32 => some (Value.int x))) (av := [.ref (Z.2.2.2 18), .int v1]) hj (by decide +kernel) (Nat.le_of_ble_eq_true rfl) (lv_args_cat (List.forall_mem_cons.mpr ⟨rfl, List.forall_mem_cons.mpr ⟨rfl, fun _ h => absurd h List.not_mem_nil⟩⟩)) ?_
  intro X hln hC hnL hrt
  subst hln
  have hG := hC.1
  show GF X (tM Z X 4 (fun x : Int32 => some (Value.int x))) _ t 0 [(0, .ref (Z.2.2.2 18)), (1, .int v1)] []
  unfold fX4_childrenOf
  refine gf_iconst hG (nI 0) dX4_childrenOf_0 (by decide) ?_
  refine gf_istore_n hG dX4_childrenOf_1 rfl (Nat.le_of_ble_eq_true rfl) (lv' := [(0, _), (1, _), (2, _)]) rfl ?_
  refine gf_iconst hG (nI 0) dX4_childrenOf_2 (by decide) ?_
  refine gf_istore_n hG dX4_childrenOf_3 rfl (Nat.le_of_ble_eq_true rfl) (lv' := [(0, _), (1, _), (2, _), (3, _)]) rfl ?_
  refine gfX4_childrenOf_L4 hC hnL hrt v1 _ (fun v2_9 t10 => ?_) FU (nI 0) (nI 0) t
  refine gf_iload_n hG dX4_childrenOf_42 rfl rfl ?_
  exact tf_ret hC hrt rfl rfl dX4_childrenOf_43
def fX4_doing (v1 : Int32) (t : tSt) : Option (Int32 × tSt) :=
  ob (fX4_at v1 (nI 7) t) (fun r1 t2 =>
  ob (fX4_at v1 (((nI 8) + r1) - (nI 1)) t2) (fun r3 t4 =>
  some (r3, t4)
  )
  )
set_option maxHeartbeats 4000000 in
theorem wX4_doing (l : Launch) (Z : tZ) (hj : tInj Z) (v1 : Int32) (t : tSt)  : ∀ (r : Int32) (t' : tSt), fX4_doing v1 t = some (r, t') → tCt l Z yX4_doing cX4_doing 2 (some .int) 2 [.ref (Z.2.2.2 18), .int v1] t (some (.int r)) t' := by
  refine tmet (ρ := (fun x : Int32 => some (Value.int x))) (av := [.ref (Z.2.2.2 18), .int v1]) hj (by decide +kernel) (Nat.le_of_ble_eq_true rfl) (lv_args_cat (List.forall_mem_cons.mpr ⟨rfl, List.forall_mem_cons.mpr ⟨rfl, fun _ h => absurd h List.not_mem_nil⟩⟩)) ?_
  intro X hln hC hnL hrt
  subst hln
  have hG := hC.1
  show GF X (tM Z X 2 (fun x : Int32 => some (Value.int x))) _ t 0 [(0, .ref (Z.2.2.2 18)), (1, .int v1)] []
  unfold fX4_doing
  refine gf_aload_n hG dX4_doing_0 rfl rfl ?_
  refine gf_iload_n hG dX4_doing_1 rfl rfl ?_
  refine gf_bipush hG (nI 8) dX4_doing_2 (by decide) ?_
  refine gf_aload_n hG dX4_doing_4 rfl rfl ?_
  refine gf_iload_n hG dX4_doing_5 rfl rfl ?_
  refine gf_bipush hG (nI 7) dX4_doing_6 (by decide) ?_
  refine tf_callV (f := fX4_at v1 (nI 7) t) (As := [.int v1, .int (nI 7)]) (rest := [.int (nI 8), .int v1, .ref (Z.2.2.2 18)]) (n := 2) (d' := 1) (st1 := fun r1 => [.int r1, .int (nI 8), .int v1, .ref (Z.2.2.2 18)]) hC hnL (wX4_at (gLn X) Z hC.2.2.1 v1 (nI 7) t) dX4_doing_8 (lw_V q1376 q1378 qs33 q78 q1379) (by decide +kernel) rfl (by decide) (by decide) (Nat.le_of_ble_eq_true rfl) (fun _ => rfl) (fun r1 t2 => ?_)
  refine gf_iadd hG dX4_doing_11 ?_
  refine gf_iconst hG (nI 1) dX4_doing_12 (by decide) ?_
  refine gf_isub hG dX4_doing_13 ?_
  refine tf_callV (f := fX4_at v1 (((nI 8) + r1) - (nI 1)) t2) (As := [.int v1, .int (((nI 8) + r1) - (nI 1))]) (rest := []) (n := 2) (d' := 1) (st1 := fun r3 => [.int r3]) hC hnL (wX4_at (gLn X) Z hC.2.2.1 v1 (((nI 8) + r1) - (nI 1)) t2) dX4_doing_14 (lw_V q1376 q1378 qs33 q78 q1379) (by decide +kernel) rfl (by decide) (by decide) (Nat.le_of_ble_eq_true rfl) (fun _ => rfl) (fun r3 t4 => ?_)
  exact tf_ret hC hrt rfl rfl dX4_doing_17
def fX4_noted_L14 (v1 : Int32) (v2 : Int32) (v4 : Int32) (kx : Int32 → tSt → Option (Int32 × tSt)) : Nat → Int32 → Int32 → tSt → Option (Int32 × tSt)
  | 0, _, _, _ => none
  | k + 1, v3, v5, t =>
    if v5 < v4 then
      ob (fX4_at v1 ((nI 65) + v5) t) (fun r3 t4 =>
      rv (trd t4 0 (nI 925)) (fun x5 =>
      ob (fX4_at v1 (nI 4) t4) (fun r6 t7 =>
      jn (fun (x8 : Int32) (t9 : tSt) =>
        letv (v5 + (nI 1)) (fun y11 =>
        fX4_noted_L14 v1 v2 v4 kx k x8 y11 t9
        )
        ) (fun (j10 : Int32 → tSt → Option (Int32 × tSt)) =>
        if r3 < (x5 - r6) then
          j10 v3 t7
        else
          jn (fun  (t12 : tSt) =>
            letv (v3 + (nI 1)) (fun y14 =>
            j10 y14 t12
            )
            ) (fun (j13 : tSt → Option (Int32 × tSt)) =>
            if v2 = 0 then
              j13 t7
            else
              ob (fX4_sets v1 ((nI 65) + v3) r3 t7) (fun r15 t16 =>
              j13 t16
              )
            )
        )
      )
      )
      )
    else
      kx v3 t
set_option maxHeartbeats 4000000 in
theorem gfX4_noted_L14 {X : gCx} {Z : tZ} (hC : tOk X Z RX4 cX4_noted 2) (hnL : gLoc X = 7) (hrt : gRet X = (some .int)) (v1 : Int32) (v2 : Int32) (v4 : Int32)  (kx : Int32 → tSt → Option (Int32 × tSt)) (hkx : ∀ (v3 : Int32) (t : tSt), GF X (tM Z X 7 (fun x : Int32 => some (Value.int x))) (kx v3 t) t 77 [(0, .ref (Z.2.2.2 18)), (1, .int v1), (2, .int v2), (3, .int v3)] []) : ∀ (k : Nat) (v3 : Int32) (v5 : Int32) (t : tSt), GF X (tM Z X 7 (fun x : Int32 => some (Value.int x))) (fX4_noted_L14 v1 v2 v4 kx k v3 v5 t) t 14 [(0, .ref (Z.2.2.2 18)), (1, .int v1), (2, .int v2), (3, .int v3), (4, .int v4), (5, .int v5)] [] := by
  have hG := hC.1
  intro k
  induction k with
  | zero => intro v3 v5 t; exact gf_none
  | succ k ih =>
    intro v3 v5 t
    rw [fX4_noted_L14]
    refine gf_iload hG dX4_noted_14 rfl ?_
    refine gf_iload hG dX4_noted_16 rfl ?_
    refine gf_icmp_ge hG (tgt := 77) dX4_noted_18 (by decide) ?_ ?_
    · refine gf_aload_n hG dX4_noted_21 rfl rfl ?_
      refine gf_iload_n hG dX4_noted_22 rfl rfl ?_
      refine gf_bipush hG (nI 65) dX4_noted_23 (by decide) ?_
      refine gf_iload hG dX4_noted_25 rfl ?_
      refine gf_iadd hG dX4_noted_27 ?_
      refine tf_callV (f := fX4_at v1 ((nI 65) + v5) t) (As := [.int v1, .int ((nI 65) + v5)]) (rest := []) (n := 2) (d' := 1) (st1 := fun r3 => [.int r3]) hC hnL (wX4_at (gLn X) Z hC.2.2.1 v1 ((nI 65) + v5) t) dX4_noted_28 (lw_V q1376 q1378 qs33 q78 q1379) (by decide +kernel) rfl (by decide) (by decide) (Nat.le_of_ble_eq_true rfl) (fun _ => rfl) (fun r3 t4 => ?_)
      refine gf_istore hG dX4_noted_31 (Nat.le_of_ble_eq_true rfl) (lv' := [(0, _), (1, _), (2, _), (3, _), (4, _), (5, _), (6, _)]) rfl ?_
      refine gf_iload hG dX4_noted_33 rfl ?_
      refine gf_aload_n hG dX4_noted_35 rfl rfl ?_
      refine tf_get hC 0 dX4_noted_36 (by decide) q1287 rfl ?_
      refine gf_sipush hG (nI 925) dX4_noted_39 (by decide) ?_
      refine tf_iald hC dX4_noted_42 (by decide) (fun x5 => ?_)
      refine gf_aload_n hG dX4_noted_43 rfl rfl ?_
      refine gf_iload_n hG dX4_noted_44 rfl rfl ?_
      refine gf_iconst hG (nI 4) dX4_noted_45 (by decide) ?_
      refine tf_callV (f := fX4_at v1 (nI 4) t4) (As := [.int v1, .int (nI 4)]) (rest := [.int x5, .int r3]) (n := 2) (d' := 1) (st1 := fun r6 => [.int r6, .int x5, .int r3]) hC hnL (wX4_at (gLn X) Z hC.2.2.1 v1 (nI 4) t4) dX4_noted_46 (lw_V q1376 q1378 qs33 q78 q1379) (by decide +kernel) rfl (by decide) (by decide) (Nat.le_of_ble_eq_true rfl) (fun _ => rfl) (fun r6 t7 => ?_)
      refine gf_isub hG dX4_noted_49 ?_
      refine gf_jn (fun j_ => ∀ (x8 : Int32) (t9 : tSt), GF X (tM Z X 7 (fun x : Int32 => some (Value.int x))) (j_ x8 t9) t9 71 [(0, .ref (Z.2.2.2 18)), (1, .int v1), (2, .int v2), (3, .int x8), (4, .int v4), (5, .int v5)] []) (fun x8 t9 => ?_) (fun j10 hj10 => ?_)
      · refine gf_letiinc hG (c := (nI 1)) (lv' := fun y11 => [(0, .ref (Z.2.2.2 18)), (1, .int v1), (2, .int v2), (3, .int x8), (4, .int v4), (5, .int y11)]) dX4_noted_71 rfl (by decide) (Nat.le_of_ble_eq_true rfl) (fun _ => rfl) (fun y11 => ?_)
        refine gf_goto hG (tgt := 14) dX4_noted_74 (by decide) ?_
        exact ih x8 y11 t9
      · refine gf_icmp_lt hG (tgt := 71) dX4_noted_50 (by decide) ?_ ?_
        · refine gf_sub [0, 1, 2, 3, 4, 5] rfl ?_
          exact hj10 v3 t7
        · refine gf_iload_n hG dX4_noted_53 rfl rfl ?_
          refine gf_jn (fun j_ => ∀  (t12 : tSt), GF X (tM Z X 7 (fun x : Int32 => some (Value.int x))) (j_ t12) t12 68 [(0, .ref (Z.2.2.2 18)), (1, .int v1), (2, .int v2), (3, .int v3), (4, .int v4), (5, .int v5)] []) (fun t12 => ?_) (fun j13 hj13 => ?_)
          · refine gf_letiinc hG (c := (nI 1)) (lv' := fun y14 => [(0, .ref (Z.2.2.2 18)), (1, .int v1), (2, .int v2), (3, .int y14), (4, .int v4), (5, .int v5)]) dX4_noted_68 rfl (by decide) (Nat.le_of_ble_eq_true rfl) (fun _ => rfl) (fun y14 => ?_)
            exact hj10 y14 t12
          · refine gf_if_eq hG (tgt := 68) dX4_noted_54 (by decide) ?_ ?_
            · refine gf_sub [0, 1, 2, 3, 4, 5] rfl ?_
              exact hj13 t7
            · refine gf_aload_n hG dX4_noted_57 rfl rfl ?_
              refine gf_iload_n hG dX4_noted_58 rfl rfl ?_
              refine gf_bipush hG (nI 65) dX4_noted_59 (by decide) ?_
              refine gf_iload_n hG dX4_noted_61 rfl rfl ?_
              refine gf_iadd hG dX4_noted_62 ?_
              refine gf_iload hG dX4_noted_63 rfl ?_
              refine tf_callV (f := fX4_sets v1 ((nI 65) + v3) r3 t7) (As := [.int v1, .int ((nI 65) + v3), .int r3]) (rest := []) (n := 3) (d' := 1) (st1 := fun _ => []) hC hnL (wX4_sets (gLn X) Z hC.2.2.1 v1 ((nI 65) + v3) r3 t7) dX4_noted_65 (lw_V q1380 q1382 qs34 q78 q1383) (by decide +kernel) rfl (by decide) (by decide) (Nat.le_of_ble_eq_true rfl) (fun _ => rfl) (fun r15 t16 => ?_)
              refine gf_sub [0, 1, 2, 3, 4, 5] rfl ?_
              exact hj13 t16
    · refine gf_sub [0, 1, 2, 3] rfl ?_
      exact hkx v3 t
def fX4_noted (v1 : Int32) (v2 : Int32) (t : tSt) : Option (Int32 × tSt) :=
  ob (fX4_at v1 (nI 64) t) (fun r1 t2 =>
  fX4_noted_L14 v1 v2 r1 (fun (v3_17 : Int32) (t18 : tSt) =>
    if v2 = 0 then
      some (v3_17, t18)
    else
      ob (fX4_sets v1 (nI 64) v3_17 t18) (fun r19 t20 =>
      some (v3_17, t20)
      )
    ) FU (nI 0) (nI 0) t2
  )
set_option maxHeartbeats 4000000 in
theorem wX4_noted (l : Launch) (Z : tZ) (hj : tInj Z) (v1 : Int32) (v2 : Int32) (t : tSt)  : ∀ (r : Int32) (t' : tSt), fX4_noted v1 v2 t = some (r, t') → tCt l Z yX4_noted cX4_noted 7 (some .int) 2 [.ref (Z.2.2.2 18), .int v1, .int v2] t (some (.int r)) t' := by
  refine tmet (ρ := (fun x : Int32 => some (Value.int x))) (av := [.ref (Z.2.2.2 18), .int v1, .int v2]) hj (by decide +kernel) (Nat.le_of_ble_eq_true rfl) (lv_args_cat (List.forall_mem_cons.mpr ⟨rfl, List.forall_mem_cons.mpr ⟨rfl, List.forall_mem_cons.mpr ⟨rfl, fun _ h => absurd h List.not_mem_nil⟩⟩⟩)) ?_
  intro X hln hC hnL hrt
  subst hln
  have hG := hC.1
  show GF X (tM Z X 7 (fun x : Int32 => some (Value.int x))) _ t 0 [(0, .ref (Z.2.2.2 18)), (1, .int v1), (2, .int v2)] []
  unfold fX4_noted
  refine gf_iconst hG (nI 0) dX4_noted_0 (by decide) ?_
  refine gf_istore_n hG dX4_noted_1 rfl (Nat.le_of_ble_eq_true rfl) (lv' := [(0, _), (1, _), (2, _), (3, _)]) rfl ?_
  refine gf_aload_n hG dX4_noted_2 rfl rfl ?_
  refine gf_iload_n hG dX4_noted_3 rfl rfl ?_
  refine gf_bipush hG (nI 64) dX4_noted_4 (by decide) ?_
  refine tf_callV (f := fX4_at v1 (nI 64) t) (As := [.int v1, .int (nI 64)]) (rest := []) (n := 2) (d' := 1) (st1 := fun r1 => [.int r1]) hC hnL (wX4_at (gLn X) Z hC.2.2.1 v1 (nI 64) t) dX4_noted_6 (lw_V q1376 q1378 qs33 q78 q1379) (by decide +kernel) rfl (by decide) (by decide) (Nat.le_of_ble_eq_true rfl) (fun _ => rfl) (fun r1 t2 => ?_)
  refine gf_istore hG dX4_noted_9 (Nat.le_of_ble_eq_true rfl) (lv' := [(0, _), (1, _), (2, _), (3, _), (4, _)]) rfl ?_
  refine gf_iconst hG (nI 0) dX4_noted_11 (by decide) ?_
  refine gf_istore hG dX4_noted_12 (Nat.le_of_ble_eq_true rfl) (lv' := [(0, _), (1, _), (2, _), (3, _), (4, _), (5, _)]) rfl ?_
  refine gfX4_noted_L14 hC hnL hrt v1 v2 r1 _ (fun v3_17 t18 => ?_) FU (nI 0) (nI 0) t2
  refine gf_iload_n hG dX4_noted_77 rfl rfl ?_
  refine gf_if_eq hG (tgt := 89) dX4_noted_78 (by decide) ?_ ?_
  · refine gf_iload_n hG dX4_noted_89 rfl rfl ?_
    exact tf_ret hC hrt rfl rfl dX4_noted_90
  · refine gf_aload_n hG dX4_noted_81 rfl rfl ?_
    refine gf_iload_n hG dX4_noted_82 rfl rfl ?_
    refine gf_bipush hG (nI 64) dX4_noted_83 (by decide) ?_
    refine gf_iload_n hG dX4_noted_85 rfl rfl ?_
    refine tf_callV (f := fX4_sets v1 (nI 64) v3_17 t18) (As := [.int v1, .int (nI 64), .int v3_17]) (rest := []) (n := 3) (d' := 1) (st1 := fun _ => []) hC hnL (wX4_sets (gLn X) Z hC.2.2.1 v1 (nI 64) v3_17 t18) dX4_noted_86 (lw_V q1380 q1382 qs34 q78 q1383) (by decide +kernel) rfl (by decide) (by decide) (Nat.le_of_ble_eq_true rfl) (fun _ => rfl) (fun r19 t20 => ?_)
    refine gf_iload_n hG dX4_noted_89 rfl rfl ?_
    exact tf_ret hC hrt rfl rfl dX4_noted_90
def fX4_timersOf_L4 (v1 : Int32) (kx : Int32 → tSt → Option (Int32 × tSt)) : Nat → Int32 → Int32 → tSt → Option (Int32 × tSt)
  | 0, _, _, _ => none
  | k + 1, v2, v3, t =>
    rv (trd t 0 (nI 931)) (fun x1 =>
    if v3 < x1 then
      rv (trd t 0 ((nI 932) + ((nI 3) * v3))) (fun x2 =>
      jn (fun (x3 : Int32) (t4 : tSt) =>
        letv ((v2 + x3)) (fun y6 =>
        letv (v3 + (nI 1)) (fun y7 =>
        fX4_timersOf_L4 v1 kx k y6 y7 t4
        )
        )
        ) (fun (j5 : Int32 → tSt → Option (Int32 × tSt)) =>
        if x2 = v1 then
          j5 (nI 1) t
        else
          j5 (nI 0) t
        )
      )
    else
      kx v2 t
    )
set_option maxHeartbeats 4000000 in
theorem gfX4_timersOf_L4 {X : gCx} {Z : tZ} (hC : tOk X Z RX4 cX4_timersOf 1) (hnL : gLoc X = 4) (hrt : gRet X = (some .int)) (v1 : Int32)  (kx : Int32 → tSt → Option (Int32 × tSt)) (hkx : ∀ (v2 : Int32) (t : tSt), GF X (tM Z X 4 (fun x : Int32 => some (Value.int x))) (kx v2 t) t 46 [(2, .int v2)] []) : ∀ (k : Nat) (v2 : Int32) (v3 : Int32) (t : tSt), GF X (tM Z X 4 (fun x : Int32 => some (Value.int x))) (fX4_timersOf_L4 v1 kx k v2 v3 t) t 4 [(0, .ref (Z.2.2.2 18)), (1, .int v1), (2, .int v2), (3, .int v3)] [] := by
  have hG := hC.1
  intro k
  induction k with
  | zero => intro v2 v3 t; exact gf_none
  | succ k ih =>
    intro v2 v3 t
    rw [fX4_timersOf_L4]
    refine gf_iload_n hG dX4_timersOf_4 rfl rfl ?_
    refine gf_aload_n hG dX4_timersOf_5 rfl rfl ?_
    refine tf_get hC 0 dX4_timersOf_6 (by decide) q1287 rfl ?_
    refine gf_sipush hG (nI 931) dX4_timersOf_9 (by decide) ?_
    refine tf_iald hC dX4_timersOf_12 (by decide) (fun x1 => ?_)
    refine gf_icmp_ge hG (tgt := 46) dX4_timersOf_13 (by decide) ?_ ?_
    · refine gf_iload_n hG dX4_timersOf_16 rfl rfl ?_
      refine gf_aload_n hG dX4_timersOf_17 rfl rfl ?_
      refine tf_get hC 0 dX4_timersOf_18 (by decide) q1287 rfl ?_
      refine gf_sipush hG (nI 932) dX4_timersOf_21 (by decide) ?_
      refine gf_iconst hG (nI 3) dX4_timersOf_24 (by decide) ?_
      refine gf_iload_n hG dX4_timersOf_25 rfl rfl ?_
      refine gf_imul hG dX4_timersOf_26 ?_
      refine gf_iadd hG dX4_timersOf_27 ?_
      refine tf_iald hC dX4_timersOf_28 (by decide) (fun x2 => ?_)
      refine gf_iload_n hG dX4_timersOf_29 rfl rfl ?_
      refine gf_jn (fun j_ => ∀ (x3 : Int32) (t4 : tSt), GF X (tM Z X 4 (fun x : Int32 => some (Value.int x))) (j_ x3 t4) t4 38 [(0, .ref (Z.2.2.2 18)), (1, .int v1), (3, .int v3)] [.int x3, .int v2]) (fun x3 t4 => ?_) (fun j5 hj5 => ?_)
      · refine gf_iadd hG dX4_timersOf_38 ?_
        refine gf_letv (fun y6 hy6 => ?_)
        refine gf_istore_n hG dX4_timersOf_39 rfl (Nat.le_of_ble_eq_true rfl) (lv' := [(0, _), (1, _), (2, _), (3, _)]) rfl ?_
        refine gf_letiinc hG (c := (nI 1)) (lv' := fun y7 => [(0, .ref (Z.2.2.2 18)), (1, .int v1), (2, .int y6), (3, .int y7)]) dX4_timersOf_40 rfl (by decide) (Nat.le_of_ble_eq_true rfl) (fun _ => rfl) (fun y7 => ?_)
        refine gf_goto hG (tgt := 4) dX4_timersOf_43 (by decide) ?_
        exact ih y6 y7 t4
      · refine gf_icmp_ne hG (tgt := 37) dX4_timersOf_30 (by decide) ?_ ?_
        · refine gf_iconst hG (nI 1) dX4_timersOf_33 (by decide) ?_
          refine gf_goto hG (tgt := 38) dX4_timersOf_34 (by decide) ?_
          refine gf_sub [0, 1, 3] rfl ?_
          exact hj5 (nI 1) t
        · refine gf_iconst hG (nI 0) dX4_timersOf_37 (by decide) ?_
          refine gf_sub [0, 1, 3] rfl ?_
          exact hj5 (nI 0) t
    · refine gf_sub [2] rfl ?_
      exact hkx v2 t
def fX4_timersOf (v1 : Int32) (t : tSt) : Option (Int32 × tSt) :=
  fX4_timersOf_L4 v1 (fun (v2_8 : Int32) (t9 : tSt) =>
    some (v2_8, t9)
    ) FU (nI 0) (nI 0) t
set_option maxHeartbeats 4000000 in
theorem wX4_timersOf (l : Launch) (Z : tZ) (hj : tInj Z) (v1 : Int32) (t : tSt)  : ∀ (r : Int32) (t' : tSt), fX4_timersOf v1 t = some (r, t') → tCt l Z yX4_timersOf cX4_timersOf 4 (some .int) 1 [.ref (Z.2.2.2 18), .int v1] t (some (.int r)) t' := by
  refine tmet (ρ := (fun x : Int32 => some (Value.int x))) (av := [.ref (Z.2.2.2 18), .int v1]) hj (by decide +kernel) (Nat.le_of_ble_eq_true rfl) (lv_args_cat (List.forall_mem_cons.mpr ⟨rfl, List.forall_mem_cons.mpr ⟨rfl, fun _ h => absurd h List.not_mem_nil⟩⟩)) ?_
  intro X hln hC hnL hrt
  subst hln
  have hG := hC.1
  show GF X (tM Z X 4 (fun x : Int32 => some (Value.int x))) _ t 0 [(0, .ref (Z.2.2.2 18)), (1, .int v1)] []
  unfold fX4_timersOf
  refine gf_iconst hG (nI 0) dX4_timersOf_0 (by decide) ?_
  refine gf_istore_n hG dX4_timersOf_1 rfl (Nat.le_of_ble_eq_true rfl) (lv' := [(0, _), (1, _), (2, _)]) rfl ?_
  refine gf_iconst hG (nI 0) dX4_timersOf_2 (by decide) ?_
  refine gf_istore_n hG dX4_timersOf_3 rfl (Nat.le_of_ble_eq_true rfl) (lv' := [(0, _), (1, _), (2, _), (3, _)]) rfl ?_
  refine gfX4_timersOf_L4 hC hnL hrt v1 _ (fun v2_8 t9 => ?_) FU (nI 0) (nI 0) t
  refine gf_iload_n hG dX4_timersOf_46 rfl rfl ?_
  exact tf_ret hC hrt rfl rfl dX4_timersOf_47
def fX4_of (v1 : Int32) (v2 : Int32) (t : tSt) : Option (Int32 × tSt) :=
  ob (fX4_isActor v1 t) (fun r1 t2 =>
  if r1 = 0 then
    some ((-1 : Int32), t2)
  else
    ob (fX4_in v2 (nI 0) (nI 13) t2) (fun r3 t4 =>
    if r3 = 0 then
      some ((-1 : Int32), t4)
    else
      jn (fun  (t5 : tSt) =>
        ob (fX4_at v1 v2 t5) (fun r7 t8 =>
        some (r7, t8)
        )
        ) (fun (j6 : tSt → Option (Int32 × tSt)) =>
        gsw v2 [
          ((nI 0), 
            ob (fX4_at v1 (nI 0) t4) (fun r9 t10 =>
            if r9 < 0 then
              some ((-2 : Int32), t10)
            else
              ob (fX4_at v1 (nI 0) t10) (fun r11 t12 =>
              some (r11, t12)
              )
            )
          ),
          ((nI 1), 
            j6 t4
          ),
          ((nI 2), 
            j6 t4
          ),
          ((nI 3), 
            j6 t4
          ),
          ((nI 4), 
            j6 t4
          ),
          ((nI 5), 
            j6 t4
          ),
          ((nI 6), 
            ob (fX4_doing v1 t4) (fun r13 t14 =>
            some (r13, t14)
            )
          ),
          ((nI 7), 
            ob (fX4_at v1 (nI 7) t4) (fun r15 t16 =>
            some (r15, t16)
            )
          ),
          ((nI 8), 
            ob (fX4_at v1 (nI 13) t4) (fun r17 t18 =>
            some (r17, t18)
            )
          ),
          ((nI 9), 
            ob (fX4_at v1 (nI 38) t4) (fun r19 t20 =>
            some (r19, t20)
            )
          ),
          ((nI 10), 
            ob (fX4_at v1 (nI 51) t4) (fun r21 t22 =>
            some (r21, t22)
            )
          ),
          ((nI 11), 
            ob (fX4_timersOf v1 t4) (fun r23 t24 =>
            some (r23, t24)
            )
          ),
          ((nI 12), 
            ob (fX4_noted v1 (nI 0) t4) (fun r25 t26 =>
            some (r25, t26)
            )
          ),
          ((nI 13), 
            ob (fX4_childrenOf v1 t4) (fun r27 t28 =>
            some (r27, t28)
            )
          )
        ] (
          j6 t4
        )
        )
    )
  )
set_option maxHeartbeats 4000000 in
theorem wX4_of (l : Launch) (Z : tZ) (hj : tInj Z) (v1 : Int32) (v2 : Int32) (t : tSt)  : ∀ (r : Int32) (t' : tSt), fX4_of v1 v2 t = some (r, t') → tCt l Z yX4_of cX4_of 3 (some .int) 3 [.ref (Z.2.2.2 18), .int v1, .int v2] t (some (.int r)) t' := by
  refine tmet (ρ := (fun x : Int32 => some (Value.int x))) (av := [.ref (Z.2.2.2 18), .int v1, .int v2]) hj (by decide +kernel) (Nat.le_of_ble_eq_true rfl) (lv_args_cat (List.forall_mem_cons.mpr ⟨rfl, List.forall_mem_cons.mpr ⟨rfl, List.forall_mem_cons.mpr ⟨rfl, fun _ h => absurd h List.not_mem_nil⟩⟩⟩)) ?_
  intro X hln hC hnL hrt
  subst hln
  have hG := hC.1
  show GF X (tM Z X 3 (fun x : Int32 => some (Value.int x))) _ t 0 [(0, .ref (Z.2.2.2 18)), (1, .int v1), (2, .int v2)] []
  unfold fX4_of
  refine gf_aload_n hG dX4_of_0 rfl rfl ?_
  refine gf_iload_n hG dX4_of_1 rfl rfl ?_
  refine tf_callV (f := fX4_isActor v1 t) (As := [.int v1]) (rest := []) (n := 1) (d' := 2) (st1 := fun r1 => [.int r1]) hC hnL (wX4_isActor (gLn X) Z hC.2.2.1 v1 t) dX4_of_2 (lw_V q1362 q1364 qs31 q78 q1365) (by decide +kernel) rfl (by decide) (by decide) (Nat.le_of_ble_eq_true rfl) (fun _ => rfl) (fun r1 t2 => ?_)
  refine gf_if_eq hG (tgt := 18) dX4_of_5 (by decide) ?_ ?_
  · refine gf_iconst hG (-1 : Int32) dX4_of_18 (by decide) ?_
    exact tf_ret hC hrt rfl rfl dX4_of_19
  · refine gf_iload_n hG dX4_of_8 rfl rfl ?_
    refine gf_iconst hG (nI 0) dX4_of_9 (by decide) ?_
    refine gf_bipush hG (nI 13) dX4_of_10 (by decide) ?_
    refine tf_callS (f := fX4_in v2 (nI 0) (nI 13) t2) (As := [.int v2, .int (nI 0), .int (nI 13)]) (rest := []) (n := 3) (d' := 1) (st1 := fun r3 => [.int r3]) hC hnL (wX4_in (gLn X) Z hC.2.2.1 v2 (nI 0) (nI 13) t2) dX4_of_12 (lw_S q1366 q1367 q78 q1368) (by decide +kernel) rfl (by decide) (by decide) (Nat.le_of_ble_eq_true rfl) (fun _ => rfl) (fun r3 t4 => ?_)
    refine gf_if_ne hG (tgt := 20) dX4_of_15 (by decide) ?_ ?_
    · refine gf_iconst hG (-1 : Int32) dX4_of_18 (by decide) ?_
      exact tf_ret hC hrt rfl rfl dX4_of_19
    · refine gf_iload_n hG dX4_of_20 rfl rfl ?_
      refine gf_jn (fun j_ => ∀  (t5 : tSt), GF X (tM Z X 3 (fun x : Int32 => some (Value.int x))) (j_ t5) t5 170 [(0, .ref (Z.2.2.2 18)), (1, .int v1), (2, .int v2)] []) (fun t5 => ?_) (fun j6 hj6 => ?_)
      · refine gf_aload_n hG dX4_of_170 rfl rfl ?_
        refine gf_iload_n hG dX4_of_171 rfl rfl ?_
        refine gf_iload_n hG dX4_of_172 rfl rfl ?_
        refine tf_callV (f := fX4_at v1 v2 t5) (As := [.int v1, .int v2]) (rest := []) (n := 2) (d' := 1) (st1 := fun r7 => [.int r7]) hC hnL (wX4_at (gLn X) Z hC.2.2.1 v1 v2 t5) dX4_of_173 (lw_V q1376 q1378 qs33 q78 q1379) (by decide +kernel) rfl (by decide) (by decide) (Nat.le_of_ble_eq_true rfl) (fun _ => rfl) (fun r7 t8 => ?_)
        exact tf_ret hC hrt rfl rfl dX4_of_176
      · refine gf_tsw hG (dt := 170) dX4_of_21 (by decide) (by decide) ⟨⟨by decide, 92, by decide, ?_⟩, ⟨by decide, 170, by decide, ?_⟩, ⟨by decide, 170, by decide, ?_⟩, ⟨by decide, 170, by decide, ?_⟩, ⟨by decide, 170, by decide, ?_⟩, ⟨by decide, 170, by decide, ?_⟩, ⟨by decide, 113, by decide, ?_⟩, ⟨by decide, 119, by decide, ?_⟩, ⟨by decide, 127, by decide, ?_⟩, ⟨by decide, 135, by decide, ?_⟩, ⟨by decide, 143, by decide, ?_⟩, ⟨by decide, 151, by decide, ?_⟩, ⟨by decide, 157, by decide, ?_⟩, ⟨by decide, 164, by decide, ?_⟩, trivial⟩ ?_
        · refine gf_aload_n hG dX4_of_92 rfl rfl ?_
          refine gf_iload_n hG dX4_of_93 rfl rfl ?_
          refine gf_iconst hG (nI 0) dX4_of_94 (by decide) ?_
          refine tf_callV (f := fX4_at v1 (nI 0) t4) (As := [.int v1, .int (nI 0)]) (rest := []) (n := 2) (d' := 1) (st1 := fun r9 => [.int r9]) hC hnL (wX4_at (gLn X) Z hC.2.2.1 v1 (nI 0) t4) dX4_of_95 (lw_V q1376 q1378 qs33 q78 q1379) (by decide +kernel) rfl (by decide) (by decide) (Nat.le_of_ble_eq_true rfl) (fun _ => rfl) (fun r9 t10 => ?_)
          refine gf_if_ge hG (tgt := 106) dX4_of_98 (by decide) ?_ ?_
          · refine gf_bipush hG (-2 : Int32) dX4_of_101 (by decide) ?_
            refine gf_goto hG (tgt := 112) dX4_of_103 (by decide) ?_
            exact tf_ret hC hrt rfl rfl dX4_of_112
          · refine gf_aload_n hG dX4_of_106 rfl rfl ?_
            refine gf_iload_n hG dX4_of_107 rfl rfl ?_
            refine gf_iconst hG (nI 0) dX4_of_108 (by decide) ?_
            refine tf_callV (f := fX4_at v1 (nI 0) t10) (As := [.int v1, .int (nI 0)]) (rest := []) (n := 2) (d' := 1) (st1 := fun r11 => [.int r11]) hC hnL (wX4_at (gLn X) Z hC.2.2.1 v1 (nI 0) t10) dX4_of_109 (lw_V q1376 q1378 qs33 q78 q1379) (by decide +kernel) rfl (by decide) (by decide) (Nat.le_of_ble_eq_true rfl) (fun _ => rfl) (fun r11 t12 => ?_)
            exact tf_ret hC hrt rfl rfl dX4_of_112
        · exact hj6 t4
        · exact hj6 t4
        · exact hj6 t4
        · exact hj6 t4
        · exact hj6 t4
        · refine gf_aload_n hG dX4_of_113 rfl rfl ?_
          refine gf_iload_n hG dX4_of_114 rfl rfl ?_
          refine tf_callV (f := fX4_doing v1 t4) (As := [.int v1]) (rest := []) (n := 1) (d' := 2) (st1 := fun r13 => [.int r13]) hC hnL (wX4_doing (gLn X) Z hC.2.2.1 v1 t4) dX4_of_115 (lw_V q1399 q1401 qs36 q78 q1402) (by decide +kernel) rfl (by decide) (by decide) (Nat.le_of_ble_eq_true rfl) (fun _ => rfl) (fun r13 t14 => ?_)
          exact tf_ret hC hrt rfl rfl dX4_of_118
        · refine gf_aload_n hG dX4_of_119 rfl rfl ?_
          refine gf_iload_n hG dX4_of_120 rfl rfl ?_
          refine gf_bipush hG (nI 7) dX4_of_121 (by decide) ?_
          refine tf_callV (f := fX4_at v1 (nI 7) t4) (As := [.int v1, .int (nI 7)]) (rest := []) (n := 2) (d' := 1) (st1 := fun r15 => [.int r15]) hC hnL (wX4_at (gLn X) Z hC.2.2.1 v1 (nI 7) t4) dX4_of_123 (lw_V q1376 q1378 qs33 q78 q1379) (by decide +kernel) rfl (by decide) (by decide) (Nat.le_of_ble_eq_true rfl) (fun _ => rfl) (fun r15 t16 => ?_)
          exact tf_ret hC hrt rfl rfl dX4_of_126
        · refine gf_aload_n hG dX4_of_127 rfl rfl ?_
          refine gf_iload_n hG dX4_of_128 rfl rfl ?_
          refine gf_bipush hG (nI 13) dX4_of_129 (by decide) ?_
          refine tf_callV (f := fX4_at v1 (nI 13) t4) (As := [.int v1, .int (nI 13)]) (rest := []) (n := 2) (d' := 1) (st1 := fun r17 => [.int r17]) hC hnL (wX4_at (gLn X) Z hC.2.2.1 v1 (nI 13) t4) dX4_of_131 (lw_V q1376 q1378 qs33 q78 q1379) (by decide +kernel) rfl (by decide) (by decide) (Nat.le_of_ble_eq_true rfl) (fun _ => rfl) (fun r17 t18 => ?_)
          exact tf_ret hC hrt rfl rfl dX4_of_134
        · refine gf_aload_n hG dX4_of_135 rfl rfl ?_
          refine gf_iload_n hG dX4_of_136 rfl rfl ?_
          refine gf_bipush hG (nI 38) dX4_of_137 (by decide) ?_
          refine tf_callV (f := fX4_at v1 (nI 38) t4) (As := [.int v1, .int (nI 38)]) (rest := []) (n := 2) (d' := 1) (st1 := fun r19 => [.int r19]) hC hnL (wX4_at (gLn X) Z hC.2.2.1 v1 (nI 38) t4) dX4_of_139 (lw_V q1376 q1378 qs33 q78 q1379) (by decide +kernel) rfl (by decide) (by decide) (Nat.le_of_ble_eq_true rfl) (fun _ => rfl) (fun r19 t20 => ?_)
          exact tf_ret hC hrt rfl rfl dX4_of_142
        · refine gf_aload_n hG dX4_of_143 rfl rfl ?_
          refine gf_iload_n hG dX4_of_144 rfl rfl ?_
          refine gf_bipush hG (nI 51) dX4_of_145 (by decide) ?_
          refine tf_callV (f := fX4_at v1 (nI 51) t4) (As := [.int v1, .int (nI 51)]) (rest := []) (n := 2) (d' := 1) (st1 := fun r21 => [.int r21]) hC hnL (wX4_at (gLn X) Z hC.2.2.1 v1 (nI 51) t4) dX4_of_147 (lw_V q1376 q1378 qs33 q78 q1379) (by decide +kernel) rfl (by decide) (by decide) (Nat.le_of_ble_eq_true rfl) (fun _ => rfl) (fun r21 t22 => ?_)
          exact tf_ret hC hrt rfl rfl dX4_of_150
        · refine gf_aload_n hG dX4_of_151 rfl rfl ?_
          refine gf_iload_n hG dX4_of_152 rfl rfl ?_
          refine tf_callV (f := fX4_timersOf v1 t4) (As := [.int v1]) (rest := []) (n := 1) (d' := 1) (st1 := fun r23 => [.int r23]) hC hnL (wX4_timersOf (gLn X) Z hC.2.2.1 v1 t4) dX4_of_153 (lw_V q1403 q1405 qs37 q78 q1406) (by decide +kernel) rfl (by decide) (by decide) (Nat.le_of_ble_eq_true rfl) (fun _ => rfl) (fun r23 t24 => ?_)
          exact tf_ret hC hrt rfl rfl dX4_of_156
        · refine gf_aload_n hG dX4_of_157 rfl rfl ?_
          refine gf_iload_n hG dX4_of_158 rfl rfl ?_
          refine gf_iconst hG (nI 0) dX4_of_159 (by decide) ?_
          refine tf_callV (f := fX4_noted v1 (nI 0) t4) (As := [.int v1, .int (nI 0)]) (rest := []) (n := 2) (d' := 2) (st1 := fun r25 => [.int r25]) hC hnL (wX4_noted (gLn X) Z hC.2.2.1 v1 (nI 0) t4) dX4_of_160 (lw_V q1407 q1409 qs38 q78 q1410) (by decide +kernel) rfl (by decide) (by decide) (Nat.le_of_ble_eq_true rfl) (fun _ => rfl) (fun r25 t26 => ?_)
          exact tf_ret hC hrt rfl rfl dX4_of_163
        · refine gf_aload_n hG dX4_of_164 rfl rfl ?_
          refine gf_iload_n hG dX4_of_165 rfl rfl ?_
          refine tf_callV (f := fX4_childrenOf v1 t4) (As := [.int v1]) (rest := []) (n := 1) (d' := 2) (st1 := fun r27 => [.int r27]) hC hnL (wX4_childrenOf (gLn X) Z hC.2.2.1 v1 t4) dX4_of_166 (lw_V q1411 q1413 qs39 q78 q1414) (by decide +kernel) rfl (by decide) (by decide) (Nat.le_of_ble_eq_true rfl) (fun _ => rfl) (fun r27 t28 => ?_)
          exact tf_ret hC hrt rfl rfl dX4_of_169
        · exact hj6 t4
def fX4_counted (v1 : Int32) (t : tSt) : Option (Int32 × tSt) :=
  ob (fX4_isActor v1 t) (fun r1 t2 =>
  if r1 = 0 then
    some ((-2000000000 : Int32), t2)
  else
    ob (fX4_at v1 (nI 6) t2) (fun r3 t4 =>
    some (r3, t4)
    )
  )
set_option maxHeartbeats 4000000 in
theorem wX4_counted (l : Launch) (Z : tZ) (hj : tInj Z) (v1 : Int32) (t : tSt)  : ∀ (r : Int32) (t' : tSt), fX4_counted v1 t = some (r, t') → tCt l Z yX4_counted cX4_counted 2 (some .int) 3 [.ref (Z.2.2.2 18), .int v1] t (some (.int r)) t' := by
  refine tmet (ρ := (fun x : Int32 => some (Value.int x))) (av := [.ref (Z.2.2.2 18), .int v1]) hj (by decide +kernel) (Nat.le_of_ble_eq_true rfl) (lv_args_cat (List.forall_mem_cons.mpr ⟨rfl, List.forall_mem_cons.mpr ⟨rfl, fun _ h => absurd h List.not_mem_nil⟩⟩)) ?_
  intro X hln hC hnL hrt
  subst hln
  have hG := hC.1
  show GF X (tM Z X 2 (fun x : Int32 => some (Value.int x))) _ t 0 [(0, .ref (Z.2.2.2 18)), (1, .int v1)] []
  unfold fX4_counted
  refine gf_aload_n hG dX4_counted_0 rfl rfl ?_
  refine gf_iload_n hG dX4_counted_1 rfl rfl ?_
  refine tf_callV (f := fX4_isActor v1 t) (As := [.int v1]) (rest := []) (n := 1) (d' := 2) (st1 := fun r1 => [.int r1]) hC hnL (wX4_isActor (gLn X) Z hC.2.2.1 v1 t) dX4_counted_2 (lw_V q1362 q1364 qs31 q78 q1365) (by decide +kernel) rfl (by decide) (by decide) (Nat.le_of_ble_eq_true rfl) (fun _ => rfl) (fun r1 t2 => ?_)
  refine gf_if_eq hG (tgt := 18) dX4_counted_5 (by decide) ?_ ?_
  · refine gf_ldc hG (-2000000000 : Int32) dX4_counted_18 q1419 ?_
    exact tf_ret hC hrt rfl rfl dX4_counted_20
  · refine gf_aload_n hG dX4_counted_8 rfl rfl ?_
    refine gf_iload_n hG dX4_counted_9 rfl rfl ?_
    refine gf_bipush hG (nI 6) dX4_counted_10 (by decide) ?_
    refine tf_callV (f := fX4_at v1 (nI 6) t2) (As := [.int v1, .int (nI 6)]) (rest := []) (n := 2) (d' := 1) (st1 := fun r3 => [.int r3]) hC hnL (wX4_at (gLn X) Z hC.2.2.1 v1 (nI 6) t2) dX4_counted_12 (lw_V q1376 q1378 qs33 q78 q1379) (by decide +kernel) rfl (by decide) (by decide) (Nat.le_of_ble_eq_true rfl) (fun _ => rfl) (fun r3 t4 => ?_)
    refine gf_goto hG (tgt := 20) dX4_counted_15 (by decide) ?_
    exact tf_ret hC hrt rfl rfl dX4_counted_20
def fX4_messageAt (v1 : Int32) (v2 : Int32) (v3 : Int32) (t : tSt) : Option (Int32 × tSt) :=
  jn (fun (x1 : Int32) (t2 : tSt) =>
    ob (fX4_at v1 x1 t2) (fun r4 t5 =>
    if v2 < r4 then
      jn (fun (x6 : Int32) (t7 : tSt) =>
        some ((x6 + ((nI 2) * v2)), t7)
        ) (fun (j8 : Int32 → tSt → Option (Int32 × tSt)) =>
        if v3 = 0 then
          j8 (nI 14) t5
        else
          j8 (nI 39) t5
        )
    else
      some ((-2 : Int32), t5)
    )
    ) (fun (j3 : Int32 → tSt → Option (Int32 × tSt)) =>
    if v3 = 0 then
      j3 (nI 13) t
    else
      j3 (nI 38) t
    )
set_option maxHeartbeats 4000000 in
theorem wX4_messageAt (l : Launch) (Z : tZ) (hj : tInj Z) (v1 : Int32) (v2 : Int32) (v3 : Int32) (t : tSt)  : ∀ (r : Int32) (t' : tSt), fX4_messageAt v1 v2 v3 t = some (r, t') → tCt l Z yX4_messageAt cX4_messageAt 4 (some .int) 2 [.ref (Z.2.2.2 18), .int v1, .int v2, .int v3] t (some (.int r)) t' := by
  refine tmet (ρ := (fun x : Int32 => some (Value.int x))) (av := [.ref (Z.2.2.2 18), .int v1, .int v2, .int v3]) hj (by decide +kernel) (Nat.le_of_ble_eq_true rfl) (lv_args_cat (List.forall_mem_cons.mpr ⟨rfl, List.forall_mem_cons.mpr ⟨rfl, List.forall_mem_cons.mpr ⟨rfl, List.forall_mem_cons.mpr ⟨rfl, fun _ h => absurd h List.not_mem_nil⟩⟩⟩⟩)) ?_
  intro X hln hC hnL hrt
  subst hln
  have hG := hC.1
  show GF X (tM Z X 4 (fun x : Int32 => some (Value.int x))) _ t 0 [(0, .ref (Z.2.2.2 18)), (1, .int v1), (2, .int v2), (3, .int v3)] []
  unfold fX4_messageAt
  refine gf_iload_n hG dX4_messageAt_0 rfl rfl ?_
  refine gf_aload_n hG dX4_messageAt_1 rfl rfl ?_
  refine gf_iload_n hG dX4_messageAt_2 rfl rfl ?_
  refine gf_iload_n hG dX4_messageAt_3 rfl rfl ?_
  refine gf_jn (fun j_ => ∀ (x1 : Int32) (t2 : tSt), GF X (tM Z X 4 (fun x : Int32 => some (Value.int x))) (j_ x1 t2) t2 14 [(2, .int v2), (3, .int v3)] [.int x1, .int v1, .ref (Z.2.2.2 18), .int v2]) (fun x1 t2 => ?_) (fun j3 hj3 => ?_)
  · refine tf_callV (f := fX4_at v1 x1 t2) (As := [.int v1, .int x1]) (rest := [.int v2]) (n := 2) (d' := 1) (st1 := fun r4 => [.int r4, .int v2]) hC hnL (wX4_at (gLn X) Z hC.2.2.1 v1 x1 t2) dX4_messageAt_14 (lw_V q1376 q1378 qs33 q78 q1379) (by decide +kernel) rfl (by decide) (by decide) (Nat.le_of_ble_eq_true rfl) (fun _ => rfl) (fun r4 t5 => ?_)
    refine gf_icmp_ge hG (tgt := 38) dX4_messageAt_17 (by decide) ?_ ?_
    · refine gf_iload_n hG dX4_messageAt_20 rfl rfl ?_
      refine gf_jn (fun j_ => ∀ (x6 : Int32) (t7 : tSt), GF X (tM Z X 4 (fun x : Int32 => some (Value.int x))) (j_ x6 t7) t7 31 [(2, .int v2)] [.int x6]) (fun x6 t7 => ?_) (fun j8 hj8 => ?_)
      · refine gf_iconst hG (nI 2) dX4_messageAt_31 (by decide) ?_
        refine gf_iload_n hG dX4_messageAt_32 rfl rfl ?_
        refine gf_imul hG dX4_messageAt_33 ?_
        refine gf_iadd hG dX4_messageAt_34 ?_
        refine gf_goto hG (tgt := 40) dX4_messageAt_35 (by decide) ?_
        exact tf_ret hC hrt rfl rfl dX4_messageAt_40
      · refine gf_if_eq hG (tgt := 29) dX4_messageAt_21 (by decide) ?_ ?_
        · refine gf_bipush hG (nI 14) dX4_messageAt_29 (by decide) ?_
          refine gf_sub [0] rfl ?_
          exact hj8 (nI 14) t5
        · refine gf_bipush hG (nI 39) dX4_messageAt_24 (by decide) ?_
          refine gf_goto hG (tgt := 31) dX4_messageAt_26 (by decide) ?_
          refine gf_sub [0] rfl ?_
          exact hj8 (nI 39) t5
    · refine gf_bipush hG (-2 : Int32) dX4_messageAt_38 (by decide) ?_
      exact tf_ret hC hrt rfl rfl dX4_messageAt_40
  · refine gf_if_eq hG (tgt := 12) dX4_messageAt_4 (by decide) ?_ ?_
    · refine gf_bipush hG (nI 13) dX4_messageAt_12 (by decide) ?_
      refine gf_sub [2, 3] rfl ?_
      exact hj3 (nI 13) t
    · refine gf_bipush hG (nI 38) dX4_messageAt_7 (by decide) ?_
      refine gf_goto hG (tgt := 14) dX4_messageAt_9 (by decide) ?_
      refine gf_sub [2, 3] rfl ?_
      exact hj3 (nI 38) t
def fX4_message (v1 : Int32) (v2 : Int32) (v3 : Int32) (t : tSt) : Option (Int32 × tSt) :=
  ob (fX4_isActor v1 t) (fun r1 t2 =>
  if r1 = 0 then
    some ((-1 : Int32), t2)
  else
    if v2 < 0 then
      some ((-1 : Int32), t2)
    else
      ob (fX4_messageAt v1 v2 v3 t2) (fun r3 t4 =>
      if r3 < 0 then
        some ((-2 : Int32), t4)
      else
        ob (fX4_at v1 (r3 + (nI 1)) t4) (fun r5 t6 =>
        if r5 < (nI 1000) then
          some ((r5 + (nI 100)), t6)
        else
          some ((((nI 300) + r5) - (nI 1000)), t6)
        )
      )
  )
set_option maxHeartbeats 4000000 in
theorem wX4_message (l : Launch) (Z : tZ) (hj : tInj Z) (v1 : Int32) (v2 : Int32) (v3 : Int32) (t : tSt)  : ∀ (r : Int32) (t' : tSt), fX4_message v1 v2 v3 t = some (r, t') → tCt l Z yX4_message cX4_message 6 (some .int) 3 [.ref (Z.2.2.2 18), .int v1, .int v2, .int v3] t (some (.int r)) t' := by
  refine tmet (ρ := (fun x : Int32 => some (Value.int x))) (av := [.ref (Z.2.2.2 18), .int v1, .int v2, .int v3]) hj (by decide +kernel) (Nat.le_of_ble_eq_true rfl) (lv_args_cat (List.forall_mem_cons.mpr ⟨rfl, List.forall_mem_cons.mpr ⟨rfl, List.forall_mem_cons.mpr ⟨rfl, List.forall_mem_cons.mpr ⟨rfl, fun _ h => absurd h List.not_mem_nil⟩⟩⟩⟩)) ?_
  intro X hln hC hnL hrt
  subst hln
  have hG := hC.1
  show GF X (tM Z X 6 (fun x : Int32 => some (Value.int x))) _ t 0 [(0, .ref (Z.2.2.2 18)), (1, .int v1), (2, .int v2), (3, .int v3)] []
  unfold fX4_message
  refine gf_aload_n hG dX4_message_0 rfl rfl ?_
  refine gf_iload_n hG dX4_message_1 rfl rfl ?_
  refine tf_callV (f := fX4_isActor v1 t) (As := [.int v1]) (rest := []) (n := 1) (d' := 2) (st1 := fun r1 => [.int r1]) hC hnL (wX4_isActor (gLn X) Z hC.2.2.1 v1 t) dX4_message_2 (lw_V q1362 q1364 qs31 q78 q1365) (by decide +kernel) rfl (by decide) (by decide) (Nat.le_of_ble_eq_true rfl) (fun _ => rfl) (fun r1 t2 => ?_)
  refine gf_if_eq hG (tgt := 12) dX4_message_5 (by decide) ?_ ?_
  · refine gf_iconst hG (-1 : Int32) dX4_message_12 (by decide) ?_
    exact tf_ret hC hrt rfl rfl dX4_message_13
  · refine gf_iload_n hG dX4_message_8 rfl rfl ?_
    refine gf_if_ge hG (tgt := 14) dX4_message_9 (by decide) ?_ ?_
    · refine gf_iconst hG (-1 : Int32) dX4_message_12 (by decide) ?_
      exact tf_ret hC hrt rfl rfl dX4_message_13
    · refine gf_aload_n hG dX4_message_14 rfl rfl ?_
      refine gf_iload_n hG dX4_message_15 rfl rfl ?_
      refine gf_iload_n hG dX4_message_16 rfl rfl ?_
      refine gf_iload_n hG dX4_message_17 rfl rfl ?_
      refine tf_callV (f := fX4_messageAt v1 v2 v3 t2) (As := [.int v1, .int v2, .int v3]) (rest := []) (n := 3) (d' := 2) (st1 := fun r3 => [.int r3]) hC hnL (wX4_messageAt (gLn X) Z hC.2.2.1 v1 v2 v3 t2) dX4_message_18 (lw_V q1424 q1426 qs40 q78 q1427) (by decide +kernel) rfl (by decide) (by decide) (Nat.le_of_ble_eq_true rfl) (fun _ => rfl) (fun r3 t4 => ?_)
      refine gf_istore hG dX4_message_21 (Nat.le_of_ble_eq_true rfl) (lv' := [(0, _), (1, _), (2, _), (3, _), (4, _)]) rfl ?_
      refine gf_iload hG dX4_message_23 rfl ?_
      refine gf_if_ge hG (tgt := 31) dX4_message_25 (by decide) ?_ ?_
      · refine gf_bipush hG (-2 : Int32) dX4_message_28 (by decide) ?_
        exact tf_ret hC hrt rfl rfl dX4_message_30
      · refine gf_aload_n hG dX4_message_31 rfl rfl ?_
        refine gf_iload_n hG dX4_message_32 rfl rfl ?_
        refine gf_iload hG dX4_message_33 rfl ?_
        refine gf_iconst hG (nI 1) dX4_message_35 (by decide) ?_
        refine gf_iadd hG dX4_message_36 ?_
        refine tf_callV (f := fX4_at v1 (r3 + (nI 1)) t4) (As := [.int v1, .int (r3 + (nI 1))]) (rest := []) (n := 2) (d' := 1) (st1 := fun r5 => [.int r5]) hC hnL (wX4_at (gLn X) Z hC.2.2.1 v1 (r3 + (nI 1)) t4) dX4_message_37 (lw_V q1376 q1378 qs33 q78 q1379) (by decide +kernel) rfl (by decide) (by decide) (Nat.le_of_ble_eq_true rfl) (fun _ => rfl) (fun r5 t6 => ?_)
        refine gf_istore hG dX4_message_40 (Nat.le_of_ble_eq_true rfl) (lv' := [(0, _), (1, _), (2, _), (3, _), (4, _), (5, _)]) rfl ?_
        refine gf_iload hG dX4_message_42 rfl ?_
        refine gf_sipush hG (nI 1000) dX4_message_44 (by decide) ?_
        refine gf_icmp_lt hG (tgt := 63) dX4_message_47 (by decide) ?_ ?_
        · refine gf_iload hG dX4_message_63 rfl ?_
          refine gf_bipush hG (nI 100) dX4_message_65 (by decide) ?_
          refine gf_iadd hG dX4_message_67 ?_
          exact tf_ret hC hrt rfl rfl dX4_message_68
        · refine gf_sipush hG (nI 300) dX4_message_50 (by decide) ?_
          refine gf_iload hG dX4_message_53 rfl ?_
          refine gf_iadd hG dX4_message_55 ?_
          refine gf_sipush hG (nI 1000) dX4_message_56 (by decide) ?_
          refine gf_isub hG dX4_message_59 ?_
          refine gf_goto hG (tgt := 68) dX4_message_60 (by decide) ?_
          exact tf_ret hC hrt rfl rfl dX4_message_68
def fX4_sender (v1 : Int32) (v2 : Int32) (v3 : Int32) (t : tSt) : Option (Int32 × tSt) :=
  ob (fX4_isActor v1 t) (fun r1 t2 =>
  if r1 = 0 then
    some ((-2 : Int32), t2)
  else
    if v2 < 0 then
      some ((-2 : Int32), t2)
    else
      ob (fX4_messageAt v1 v2 v3 t2) (fun r3 t4 =>
      if r3 < 0 then
        some ((-2 : Int32), t4)
      else
        ob (fX4_at v1 r3 t4) (fun r5 t6 =>
        some (r5, t6)
        )
      )
  )
set_option maxHeartbeats 4000000 in
theorem wX4_sender (l : Launch) (Z : tZ) (hj : tInj Z) (v1 : Int32) (v2 : Int32) (v3 : Int32) (t : tSt)  : ∀ (r : Int32) (t' : tSt), fX4_sender v1 v2 v3 t = some (r, t') → tCt l Z yX4_sender cX4_sender 5 (some .int) 3 [.ref (Z.2.2.2 18), .int v1, .int v2, .int v3] t (some (.int r)) t' := by
  refine tmet (ρ := (fun x : Int32 => some (Value.int x))) (av := [.ref (Z.2.2.2 18), .int v1, .int v2, .int v3]) hj (by decide +kernel) (Nat.le_of_ble_eq_true rfl) (lv_args_cat (List.forall_mem_cons.mpr ⟨rfl, List.forall_mem_cons.mpr ⟨rfl, List.forall_mem_cons.mpr ⟨rfl, List.forall_mem_cons.mpr ⟨rfl, fun _ h => absurd h List.not_mem_nil⟩⟩⟩⟩)) ?_
  intro X hln hC hnL hrt
  subst hln
  have hG := hC.1
  show GF X (tM Z X 5 (fun x : Int32 => some (Value.int x))) _ t 0 [(0, .ref (Z.2.2.2 18)), (1, .int v1), (2, .int v2), (3, .int v3)] []
  unfold fX4_sender
  refine gf_aload_n hG dX4_sender_0 rfl rfl ?_
  refine gf_iload_n hG dX4_sender_1 rfl rfl ?_
  refine tf_callV (f := fX4_isActor v1 t) (As := [.int v1]) (rest := []) (n := 1) (d' := 2) (st1 := fun r1 => [.int r1]) hC hnL (wX4_isActor (gLn X) Z hC.2.2.1 v1 t) dX4_sender_2 (lw_V q1362 q1364 qs31 q78 q1365) (by decide +kernel) rfl (by decide) (by decide) (Nat.le_of_ble_eq_true rfl) (fun _ => rfl) (fun r1 t2 => ?_)
  refine gf_if_eq hG (tgt := 12) dX4_sender_5 (by decide) ?_ ?_
  · refine gf_bipush hG (-2 : Int32) dX4_sender_12 (by decide) ?_
    exact tf_ret hC hrt rfl rfl dX4_sender_14
  · refine gf_iload_n hG dX4_sender_8 rfl rfl ?_
    refine gf_if_ge hG (tgt := 15) dX4_sender_9 (by decide) ?_ ?_
    · refine gf_bipush hG (-2 : Int32) dX4_sender_12 (by decide) ?_
      exact tf_ret hC hrt rfl rfl dX4_sender_14
    · refine gf_aload_n hG dX4_sender_15 rfl rfl ?_
      refine gf_iload_n hG dX4_sender_16 rfl rfl ?_
      refine gf_iload_n hG dX4_sender_17 rfl rfl ?_
      refine gf_iload_n hG dX4_sender_18 rfl rfl ?_
      refine tf_callV (f := fX4_messageAt v1 v2 v3 t2) (As := [.int v1, .int v2, .int v3]) (rest := []) (n := 3) (d' := 2) (st1 := fun r3 => [.int r3]) hC hnL (wX4_messageAt (gLn X) Z hC.2.2.1 v1 v2 v3 t2) dX4_sender_19 (lw_V q1424 q1426 qs40 q78 q1427) (by decide +kernel) rfl (by decide) (by decide) (Nat.le_of_ble_eq_true rfl) (fun _ => rfl) (fun r3 t4 => ?_)
      refine gf_istore hG dX4_sender_22 (Nat.le_of_ble_eq_true rfl) (lv' := [(0, _), (1, _), (2, _), (3, _), (4, _)]) rfl ?_
      refine gf_iload hG dX4_sender_24 rfl ?_
      refine gf_if_ge hG (tgt := 34) dX4_sender_26 (by decide) ?_ ?_
      · refine gf_bipush hG (-2 : Int32) dX4_sender_29 (by decide) ?_
        refine gf_goto hG (tgt := 41) dX4_sender_31 (by decide) ?_
        exact tf_ret hC hrt rfl rfl dX4_sender_41
      · refine gf_aload_n hG dX4_sender_34 rfl rfl ?_
        refine gf_iload_n hG dX4_sender_35 rfl rfl ?_
        refine gf_iload hG dX4_sender_36 rfl ?_
        refine tf_callV (f := fX4_at v1 r3 t4) (As := [.int v1, .int r3]) (rest := []) (n := 2) (d' := 1) (st1 := fun r5 => [.int r5]) hC hnL (wX4_at (gLn X) Z hC.2.2.1 v1 r3 t4) dX4_sender_38 (lw_V q1376 q1378 qs33 q78 q1379) (by decide +kernel) rfl (by decide) (by decide) (Nat.le_of_ble_eq_true rfl) (fun _ => rfl) (fun r5 t6 => ?_)
        exact tf_ret hC hrt rfl rfl dX4_sender_41
def fX4_stack (v1 : Int32) (v2 : Int32) (t : tSt) : Option (Int32 × tSt) :=
  ob (fX4_isActor v1 t) (fun r1 t2 =>
  if r1 = 0 then
    some ((-1 : Int32), t2)
  else
    if v2 < 0 then
      some ((-1 : Int32), t2)
    else
      ob (fX4_at v1 (nI 7) t2) (fun r3 t4 =>
      if v2 < r3 then
        ob (fX4_at v1 ((nI 8) + v2) t4) (fun r5 t6 =>
        some (r5, t6)
        )
      else
        some ((-2 : Int32), t4)
      )
  )
set_option maxHeartbeats 4000000 in
theorem wX4_stack (l : Launch) (Z : tZ) (hj : tInj Z) (v1 : Int32) (v2 : Int32) (t : tSt)  : ∀ (r : Int32) (t' : tSt), fX4_stack v1 v2 t = some (r, t') → tCt l Z yX4_stack cX4_stack 3 (some .int) 3 [.ref (Z.2.2.2 18), .int v1, .int v2] t (some (.int r)) t' := by
  refine tmet (ρ := (fun x : Int32 => some (Value.int x))) (av := [.ref (Z.2.2.2 18), .int v1, .int v2]) hj (by decide +kernel) (Nat.le_of_ble_eq_true rfl) (lv_args_cat (List.forall_mem_cons.mpr ⟨rfl, List.forall_mem_cons.mpr ⟨rfl, List.forall_mem_cons.mpr ⟨rfl, fun _ h => absurd h List.not_mem_nil⟩⟩⟩)) ?_
  intro X hln hC hnL hrt
  subst hln
  have hG := hC.1
  show GF X (tM Z X 3 (fun x : Int32 => some (Value.int x))) _ t 0 [(0, .ref (Z.2.2.2 18)), (1, .int v1), (2, .int v2)] []
  unfold fX4_stack
  refine gf_aload_n hG dX4_stack_0 rfl rfl ?_
  refine gf_iload_n hG dX4_stack_1 rfl rfl ?_
  refine tf_callV (f := fX4_isActor v1 t) (As := [.int v1]) (rest := []) (n := 1) (d' := 2) (st1 := fun r1 => [.int r1]) hC hnL (wX4_isActor (gLn X) Z hC.2.2.1 v1 t) dX4_stack_2 (lw_V q1362 q1364 qs31 q78 q1365) (by decide +kernel) rfl (by decide) (by decide) (Nat.le_of_ble_eq_true rfl) (fun _ => rfl) (fun r1 t2 => ?_)
  refine gf_if_eq hG (tgt := 12) dX4_stack_5 (by decide) ?_ ?_
  · refine gf_iconst hG (-1 : Int32) dX4_stack_12 (by decide) ?_
    exact tf_ret hC hrt rfl rfl dX4_stack_13
  · refine gf_iload_n hG dX4_stack_8 rfl rfl ?_
    refine gf_if_ge hG (tgt := 14) dX4_stack_9 (by decide) ?_ ?_
    · refine gf_iconst hG (-1 : Int32) dX4_stack_12 (by decide) ?_
      exact tf_ret hC hrt rfl rfl dX4_stack_13
    · refine gf_iload_n hG dX4_stack_14 rfl rfl ?_
      refine gf_aload_n hG dX4_stack_15 rfl rfl ?_
      refine gf_iload_n hG dX4_stack_16 rfl rfl ?_
      refine gf_bipush hG (nI 7) dX4_stack_17 (by decide) ?_
      refine tf_callV (f := fX4_at v1 (nI 7) t2) (As := [.int v1, .int (nI 7)]) (rest := [.int v2]) (n := 2) (d' := 1) (st1 := fun r3 => [.int r3, .int v2]) hC hnL (wX4_at (gLn X) Z hC.2.2.1 v1 (nI 7) t2) dX4_stack_19 (lw_V q1376 q1378 qs33 q78 q1379) (by decide +kernel) rfl (by decide) (by decide) (Nat.le_of_ble_eq_true rfl) (fun _ => rfl) (fun r3 t4 => ?_)
      refine gf_icmp_ge hG (tgt := 37) dX4_stack_22 (by decide) ?_ ?_
      · refine gf_aload_n hG dX4_stack_25 rfl rfl ?_
        refine gf_iload_n hG dX4_stack_26 rfl rfl ?_
        refine gf_bipush hG (nI 8) dX4_stack_27 (by decide) ?_
        refine gf_iload_n hG dX4_stack_29 rfl rfl ?_
        refine gf_iadd hG dX4_stack_30 ?_
        refine tf_callV (f := fX4_at v1 ((nI 8) + v2) t4) (As := [.int v1, .int ((nI 8) + v2)]) (rest := []) (n := 2) (d' := 1) (st1 := fun r5 => [.int r5]) hC hnL (wX4_at (gLn X) Z hC.2.2.1 v1 ((nI 8) + v2) t4) dX4_stack_31 (lw_V q1376 q1378 qs33 q78 q1379) (by decide +kernel) rfl (by decide) (by decide) (Nat.le_of_ble_eq_true rfl) (fun _ => rfl) (fun r5 t6 => ?_)
        refine gf_goto hG (tgt := 39) dX4_stack_34 (by decide) ?_
        exact tf_ret hC hrt rfl rfl dX4_stack_39
      · refine gf_bipush hG (-2 : Int32) dX4_stack_37 (by decide) ?_
        exact tf_ret hC hrt rfl rfl dX4_stack_39
def fX4_watcher (v1 : Int32) (v2 : Int32) (t : tSt) : Option (Int32 × tSt) :=
  ob (fX4_isActor v1 t) (fun r1 t2 =>
  if r1 = 0 then
    some ((-1 : Int32), t2)
  else
    if v2 < 0 then
      some ((-1 : Int32), t2)
    else
      ob (fX4_at v1 (nI 51) t2) (fun r3 t4 =>
      if v2 < r3 then
        ob (fX4_at v1 ((nI 52) + v2) t4) (fun r5 t6 =>
        some (r5, t6)
        )
      else
        some ((-2 : Int32), t4)
      )
  )
set_option maxHeartbeats 4000000 in
theorem wX4_watcher (l : Launch) (Z : tZ) (hj : tInj Z) (v1 : Int32) (v2 : Int32) (t : tSt)  : ∀ (r : Int32) (t' : tSt), fX4_watcher v1 v2 t = some (r, t') → tCt l Z yX4_watcher cX4_watcher 3 (some .int) 3 [.ref (Z.2.2.2 18), .int v1, .int v2] t (some (.int r)) t' := by
  refine tmet (ρ := (fun x : Int32 => some (Value.int x))) (av := [.ref (Z.2.2.2 18), .int v1, .int v2]) hj (by decide +kernel) (Nat.le_of_ble_eq_true rfl) (lv_args_cat (List.forall_mem_cons.mpr ⟨rfl, List.forall_mem_cons.mpr ⟨rfl, List.forall_mem_cons.mpr ⟨rfl, fun _ h => absurd h List.not_mem_nil⟩⟩⟩)) ?_
  intro X hln hC hnL hrt
  subst hln
  have hG := hC.1
  show GF X (tM Z X 3 (fun x : Int32 => some (Value.int x))) _ t 0 [(0, .ref (Z.2.2.2 18)), (1, .int v1), (2, .int v2)] []
  unfold fX4_watcher
  refine gf_aload_n hG dX4_watcher_0 rfl rfl ?_
  refine gf_iload_n hG dX4_watcher_1 rfl rfl ?_
  refine tf_callV (f := fX4_isActor v1 t) (As := [.int v1]) (rest := []) (n := 1) (d' := 2) (st1 := fun r1 => [.int r1]) hC hnL (wX4_isActor (gLn X) Z hC.2.2.1 v1 t) dX4_watcher_2 (lw_V q1362 q1364 qs31 q78 q1365) (by decide +kernel) rfl (by decide) (by decide) (Nat.le_of_ble_eq_true rfl) (fun _ => rfl) (fun r1 t2 => ?_)
  refine gf_if_eq hG (tgt := 12) dX4_watcher_5 (by decide) ?_ ?_
  · refine gf_iconst hG (-1 : Int32) dX4_watcher_12 (by decide) ?_
    exact tf_ret hC hrt rfl rfl dX4_watcher_13
  · refine gf_iload_n hG dX4_watcher_8 rfl rfl ?_
    refine gf_if_ge hG (tgt := 14) dX4_watcher_9 (by decide) ?_ ?_
    · refine gf_iconst hG (-1 : Int32) dX4_watcher_12 (by decide) ?_
      exact tf_ret hC hrt rfl rfl dX4_watcher_13
    · refine gf_iload_n hG dX4_watcher_14 rfl rfl ?_
      refine gf_aload_n hG dX4_watcher_15 rfl rfl ?_
      refine gf_iload_n hG dX4_watcher_16 rfl rfl ?_
      refine gf_bipush hG (nI 51) dX4_watcher_17 (by decide) ?_
      refine tf_callV (f := fX4_at v1 (nI 51) t2) (As := [.int v1, .int (nI 51)]) (rest := [.int v2]) (n := 2) (d' := 1) (st1 := fun r3 => [.int r3, .int v2]) hC hnL (wX4_at (gLn X) Z hC.2.2.1 v1 (nI 51) t2) dX4_watcher_19 (lw_V q1376 q1378 qs33 q78 q1379) (by decide +kernel) rfl (by decide) (by decide) (Nat.le_of_ble_eq_true rfl) (fun _ => rfl) (fun r3 t4 => ?_)
      refine gf_icmp_ge hG (tgt := 37) dX4_watcher_22 (by decide) ?_ ?_
      · refine gf_aload_n hG dX4_watcher_25 rfl rfl ?_
        refine gf_iload_n hG dX4_watcher_26 rfl rfl ?_
        refine gf_bipush hG (nI 52) dX4_watcher_27 (by decide) ?_
        refine gf_iload_n hG dX4_watcher_29 rfl rfl ?_
        refine gf_iadd hG dX4_watcher_30 ?_
        refine tf_callV (f := fX4_at v1 ((nI 52) + v2) t4) (As := [.int v1, .int ((nI 52) + v2)]) (rest := []) (n := 2) (d' := 1) (st1 := fun r5 => [.int r5]) hC hnL (wX4_at (gLn X) Z hC.2.2.1 v1 ((nI 52) + v2) t4) dX4_watcher_31 (lw_V q1376 q1378 qs33 q78 q1379) (by decide +kernel) rfl (by decide) (by decide) (Nat.le_of_ble_eq_true rfl) (fun _ => rfl) (fun r5 t6 => ?_)
        refine gf_goto hG (tgt := 39) dX4_watcher_34 (by decide) ?_
        exact tf_ret hC hrt rfl rfl dX4_watcher_39
      · refine gf_bipush hG (-2 : Int32) dX4_watcher_37 (by decide) ?_
        exact tf_ret hC hrt rfl rfl dX4_watcher_39
def fX4_timer_L51 (v1 : Int32) (v2 : Int32) (v3 : Int32) (v5 : Int32) (kx : Int32 → tSt → Option (Int32 × tSt)) : Nat → Int32 → Int32 → tSt → Option (Int32 × tSt)
  | 0, _, _, _ => none
  | k + 1, v4, v6, t =>
    rv (trd t 0 (nI 931)) (fun x5 =>
    if v6 < x5 then
      rv (trd t 0 (((nI 932) + ((nI 3) * v6)) + (nI 1))) (fun x6 =>
      jn (fun (x7 : Int32) (t8 : tSt) =>
        letv ((v4 + x7)) (fun y10 =>
        letv (v6 + (nI 1)) (fun y11 =>
        fX4_timer_L51 v1 v2 v3 v5 kx k y10 y11 t8
        )
        )
        ) (fun (j9 : Int32 → tSt → Option (Int32 × tSt)) =>
        jn (fun  (t12 : tSt) =>
          j9 (nI 1) t12
          ) (fun (j13 : tSt → Option (Int32 × tSt)) =>
          if x6 < v5 then
            j13 t
          else
            jn (fun  (t14 : tSt) =>
              j9 (nI 0) t14
              ) (fun (j15 : tSt → Option (Int32 × tSt)) =>
              if x6 = v5 then
                if v6 < v3 then
                  j13 t
                else
                  j15 t
              else
                j15 t
              )
          )
        )
      )
    else
      kx v4 t
    )
set_option maxHeartbeats 4000000 in
theorem gfX4_timer_L51 {X : gCx} {Z : tZ} (hC : tOk X Z RX4 cX4_timer 2) (hnL : gLoc X = 8) (hrt : gRet X = (some .int)) (v1 : Int32) (v2 : Int32) (v3 : Int32) (v5 : Int32)  (kx : Int32 → tSt → Option (Int32 × tSt)) (hkx : ∀ (v4 : Int32) (t : tSt), GF X (tM Z X 8 (fun x : Int32 => some (Value.int x))) (kx v4 t) t 117 [(0, .ref (Z.2.2.2 18)), (1, .int v1), (2, .int v2), (3, .int v3), (4, .int v4)] []) : ∀ (k : Nat) (v4 : Int32) (v6 : Int32) (t : tSt), GF X (tM Z X 8 (fun x : Int32 => some (Value.int x))) (fX4_timer_L51 v1 v2 v3 v5 kx k v4 v6 t) t 51 [(0, .ref (Z.2.2.2 18)), (1, .int v1), (2, .int v2), (3, .int v3), (4, .int v4), (5, .int v5), (6, .int v6)] [] := by
  have hG := hC.1
  intro k
  induction k with
  | zero => intro v4 v6 t; exact gf_none
  | succ k ih =>
    intro v4 v6 t
    rw [fX4_timer_L51]
    refine gf_iload hG dX4_timer_51 rfl ?_
    refine gf_aload_n hG dX4_timer_53 rfl rfl ?_
    refine tf_get hC 0 dX4_timer_54 (by decide) q1287 rfl ?_
    refine gf_sipush hG (nI 931) dX4_timer_57 (by decide) ?_
    refine tf_iald hC dX4_timer_60 (by decide) (fun x5 => ?_)
    refine gf_icmp_ge hG (tgt := 117) dX4_timer_61 (by decide) ?_ ?_
    · refine gf_aload_n hG dX4_timer_64 rfl rfl ?_
      refine tf_get hC 0 dX4_timer_65 (by decide) q1287 rfl ?_
      refine gf_sipush hG (nI 932) dX4_timer_68 (by decide) ?_
      refine gf_iconst hG (nI 3) dX4_timer_71 (by decide) ?_
      refine gf_iload hG dX4_timer_72 rfl ?_
      refine gf_imul hG dX4_timer_74 ?_
      refine gf_iadd hG dX4_timer_75 ?_
      refine gf_iconst hG (nI 1) dX4_timer_76 (by decide) ?_
      refine gf_iadd hG dX4_timer_77 ?_
      refine tf_iald hC dX4_timer_78 (by decide) (fun x6 => ?_)
      refine gf_istore hG dX4_timer_79 (Nat.le_of_ble_eq_true rfl) (lv' := [(0, _), (1, _), (2, _), (3, _), (4, _), (5, _), (6, _), (7, _)]) rfl ?_
      refine gf_iload hG dX4_timer_81 rfl ?_
      refine gf_iload hG dX4_timer_83 rfl ?_
      refine gf_iload hG dX4_timer_85 rfl ?_
      refine gf_jn (fun j_ => ∀ (x7 : Int32) (t8 : tSt), GF X (tM Z X 8 (fun x : Int32 => some (Value.int x))) (j_ x7 t8) t8 108 [(0, .ref (Z.2.2.2 18)), (1, .int v1), (2, .int v2), (3, .int v3), (5, .int v5), (6, .int v6)] [.int x7, .int v4]) (fun x7 t8 => ?_) (fun j9 hj9 => ?_)
      · refine gf_iadd hG dX4_timer_108 ?_
        refine gf_letv (fun y10 hy10 => ?_)
        refine gf_istore hG dX4_timer_109 (Nat.le_of_ble_eq_true rfl) (lv' := [(0, _), (1, _), (2, _), (3, _), (4, _), (5, _), (6, _)]) rfl ?_
        refine gf_letiinc hG (c := (nI 1)) (lv' := fun y11 => [(0, .ref (Z.2.2.2 18)), (1, .int v1), (2, .int v2), (3, .int v3), (4, .int y10), (5, .int v5), (6, .int y11)]) dX4_timer_111 rfl (by decide) (Nat.le_of_ble_eq_true rfl) (fun _ => rfl) (fun y11 => ?_)
        refine gf_goto hG (tgt := 51) dX4_timer_114 (by decide) ?_
        exact ih y10 y11 t8
      · refine gf_jn (fun j_ => ∀  (t12 : tSt), GF X (tM Z X 8 (fun x : Int32 => some (Value.int x))) (j_ t12) t12 103 [(0, .ref (Z.2.2.2 18)), (1, .int v1), (2, .int v2), (3, .int v3), (5, .int v5), (6, .int v6)] [.int v4]) (fun t12 => ?_) (fun j13 hj13 => ?_)
        · refine gf_iconst hG (nI 1) dX4_timer_103 (by decide) ?_
          refine gf_goto hG (tgt := 108) dX4_timer_104 (by decide) ?_
          exact hj9 (nI 1) t12
        · refine gf_icmp_lt hG (tgt := 103) dX4_timer_87 (by decide) ?_ ?_
          · refine gf_sub [0, 1, 2, 3, 5, 6] rfl ?_
            exact hj13 t
          · refine gf_iload hG dX4_timer_90 rfl ?_
            refine gf_iload hG dX4_timer_92 rfl ?_
            refine gf_jn (fun j_ => ∀  (t14 : tSt), GF X (tM Z X 8 (fun x : Int32 => some (Value.int x))) (j_ t14) t14 107 [(0, .ref (Z.2.2.2 18)), (1, .int v1), (2, .int v2), (3, .int v3), (5, .int v5), (6, .int v6)] [.int v4]) (fun t14 => ?_) (fun j15 hj15 => ?_)
            · refine gf_iconst hG (nI 0) dX4_timer_107 (by decide) ?_
              exact hj9 (nI 0) t14
            · refine gf_icmp_ne hG (tgt := 107) dX4_timer_94 (by decide) ?_ ?_
              · refine gf_iload hG dX4_timer_97 rfl ?_
                refine gf_iload_n hG dX4_timer_99 rfl rfl ?_
                refine gf_icmp_ge hG (tgt := 107) dX4_timer_100 (by decide) ?_ ?_
                · refine gf_sub [0, 1, 2, 3, 5, 6] rfl ?_
                  exact hj13 t
                · refine gf_sub [0, 1, 2, 3, 5, 6] rfl ?_
                  exact hj15 t
              · refine gf_sub [0, 1, 2, 3, 5, 6] rfl ?_
                exact hj15 t
    · refine gf_sub [0, 1, 2, 3, 4] rfl ?_
      exact hkx v4 t
def fX4_timer_L17 (v1 : Int32) (v2 : Int32) (kx : tSt → Option (Int32 × tSt)) : Nat → Int32 → tSt → Option (Int32 × tSt)
  | 0, _, _ => none
  | k + 1, v3, t =>
    rv (trd t 0 (nI 931)) (fun x3 =>
    if v3 < x3 then
      rv (trd t 0 (((nI 932) + ((nI 3) * v3)) + (nI 1))) (fun x4 =>
      fX4_timer_L51 v1 v2 v3 x4 (fun (v4_16 : Int32) (t17 : tSt) =>
        if v4_16 = v1 then
          rv (trd t17 0 (((nI 932) + ((nI 3) * v3)) + v2)) (fun x18 =>
          if v2 = (nI 2) then
            some ((x18 + (nI 100)), t17)
          else
            some ((x18 + (nI 0)), t17)
          )
        else
          letv (v3 + (nI 1)) (fun y19 =>
          fX4_timer_L17 v1 v2 kx k y19 t17
          )
        ) FU (nI 0) (nI 0) t
      )
    else
      kx t
    )
set_option maxHeartbeats 4000000 in
theorem gfX4_timer_L17 {X : gCx} {Z : tZ} (hC : tOk X Z RX4 cX4_timer 2) (hnL : gLoc X = 8) (hrt : gRet X = (some .int)) (v1 : Int32) (v2 : Int32)  (kx : tSt → Option (Int32 × tSt)) (hkx : ∀  (t : tSt), GF X (tM Z X 8 (fun x : Int32 => some (Value.int x))) (kx t) t 156 [] []) : ∀ (k : Nat) (v3 : Int32) (t : tSt), GF X (tM Z X 8 (fun x : Int32 => some (Value.int x))) (fX4_timer_L17 v1 v2 kx k v3 t) t 17 [(0, .ref (Z.2.2.2 18)), (1, .int v1), (2, .int v2), (3, .int v3)] [] := by
  have hG := hC.1
  intro k
  induction k with
  | zero => intro v3 t; exact gf_none
  | succ k ih =>
    intro v3 t
    rw [fX4_timer_L17]
    refine gf_iload_n hG dX4_timer_17 rfl rfl ?_
    refine gf_aload_n hG dX4_timer_18 rfl rfl ?_
    refine tf_get hC 0 dX4_timer_19 (by decide) q1287 rfl ?_
    refine gf_sipush hG (nI 931) dX4_timer_22 (by decide) ?_
    refine tf_iald hC dX4_timer_25 (by decide) (fun x3 => ?_)
    refine gf_icmp_ge hG (tgt := 156) dX4_timer_26 (by decide) ?_ ?_
    · refine gf_iconst hG (nI 0) dX4_timer_29 (by decide) ?_
      refine gf_istore hG dX4_timer_30 (Nat.le_of_ble_eq_true rfl) (lv' := [(0, _), (1, _), (2, _), (3, _), (4, _)]) rfl ?_
      refine gf_aload_n hG dX4_timer_32 rfl rfl ?_
      refine tf_get hC 0 dX4_timer_33 (by decide) q1287 rfl ?_
      refine gf_sipush hG (nI 932) dX4_timer_36 (by decide) ?_
      refine gf_iconst hG (nI 3) dX4_timer_39 (by decide) ?_
      refine gf_iload_n hG dX4_timer_40 rfl rfl ?_
      refine gf_imul hG dX4_timer_41 ?_
      refine gf_iadd hG dX4_timer_42 ?_
      refine gf_iconst hG (nI 1) dX4_timer_43 (by decide) ?_
      refine gf_iadd hG dX4_timer_44 ?_
      refine tf_iald hC dX4_timer_45 (by decide) (fun x4 => ?_)
      refine gf_istore hG dX4_timer_46 (Nat.le_of_ble_eq_true rfl) (lv' := [(0, _), (1, _), (2, _), (3, _), (4, _), (5, _)]) rfl ?_
      refine gf_iconst hG (nI 0) dX4_timer_48 (by decide) ?_
      refine gf_istore hG dX4_timer_49 (Nat.le_of_ble_eq_true rfl) (lv' := [(0, _), (1, _), (2, _), (3, _), (4, _), (5, _), (6, _)]) rfl ?_
      refine gfX4_timer_L51 hC hnL hrt v1 v2 v3 x4 _ (fun v4_16 t17 => ?_) FU (nI 0) (nI 0) t
      refine gf_iload hG dX4_timer_117 rfl ?_
      refine gf_iload_n hG dX4_timer_119 rfl rfl ?_
      refine gf_icmp_ne hG (tgt := 150) dX4_timer_120 (by decide) ?_ ?_
      · refine gf_aload_n hG dX4_timer_123 rfl rfl ?_
        refine tf_get hC 0 dX4_timer_124 (by decide) q1287 rfl ?_
        refine gf_sipush hG (nI 932) dX4_timer_127 (by decide) ?_
        refine gf_iconst hG (nI 3) dX4_timer_130 (by decide) ?_
        refine gf_iload_n hG dX4_timer_131 rfl rfl ?_
        refine gf_imul hG dX4_timer_132 ?_
        refine gf_iadd hG dX4_timer_133 ?_
        refine gf_iload_n hG dX4_timer_134 rfl rfl ?_
        refine gf_iadd hG dX4_timer_135 ?_
        refine tf_iald hC dX4_timer_136 (by decide) (fun x18 => ?_)
        refine gf_iload_n hG dX4_timer_137 rfl rfl ?_
        refine gf_iconst hG (nI 2) dX4_timer_138 (by decide) ?_
        refine gf_icmp_ne hG (tgt := 147) dX4_timer_139 (by decide) ?_ ?_
        · refine gf_bipush hG (nI 100) dX4_timer_142 (by decide) ?_
          refine gf_goto hG (tgt := 148) dX4_timer_144 (by decide) ?_
          refine gf_iadd hG dX4_timer_148 ?_
          exact tf_ret hC hrt rfl rfl dX4_timer_149
        · refine gf_iconst hG (nI 0) dX4_timer_147 (by decide) ?_
          refine gf_iadd hG dX4_timer_148 ?_
          exact tf_ret hC hrt rfl rfl dX4_timer_149
      · refine gf_letiinc hG (c := (nI 1)) (lv' := fun y19 => [(0, .ref (Z.2.2.2 18)), (1, .int v1), (2, .int v2), (3, .int y19), (4, .int v4_16)]) dX4_timer_150 rfl (by decide) (Nat.le_of_ble_eq_true rfl) (fun _ => rfl) (fun y19 => ?_)
        refine gf_goto hG (tgt := 17) dX4_timer_153 (by decide) ?_
        refine gf_sub [0, 1, 2, 3] rfl ?_
        exact ih y19 t17
    · refine gf_sub [] rfl ?_
      exact hkx t
def fX4_timer (v1 : Int32) (v2 : Int32) (t : tSt) : Option (Int32 × tSt) :=
  if v1 < 0 then
    some ((-1 : Int32), t)
  else
    ob (fX4_in v2 (nI 0) (nI 2) t) (fun r1 t2 =>
    if r1 = 0 then
      some ((-1 : Int32), t2)
    else
      fX4_timer_L17 v1 v2 (fun  (t20 : tSt) =>
        some ((-2 : Int32), t20)
        ) FU (nI 0) t2
    )
set_option maxHeartbeats 4000000 in
theorem wX4_timer (l : Launch) (Z : tZ) (hj : tInj Z) (v1 : Int32) (v2 : Int32) (t : tSt)  : ∀ (r : Int32) (t' : tSt), fX4_timer v1 v2 t = some (r, t') → tCt l Z yX4_timer cX4_timer 8 (some .int) 2 [.ref (Z.2.2.2 18), .int v1, .int v2] t (some (.int r)) t' := by
  refine tmet (ρ := (fun x : Int32 => some (Value.int x))) (av := [.ref (Z.2.2.2 18), .int v1, .int v2]) hj (by decide +kernel) (Nat.le_of_ble_eq_true rfl) (lv_args_cat (List.forall_mem_cons.mpr ⟨rfl, List.forall_mem_cons.mpr ⟨rfl, List.forall_mem_cons.mpr ⟨rfl, fun _ h => absurd h List.not_mem_nil⟩⟩⟩)) ?_
  intro X hln hC hnL hrt
  subst hln
  have hG := hC.1
  show GF X (tM Z X 8 (fun x : Int32 => some (Value.int x))) _ t 0 [(0, .ref (Z.2.2.2 18)), (1, .int v1), (2, .int v2)] []
  unfold fX4_timer
  refine gf_iload_n hG dX4_timer_0 rfl rfl ?_
  refine gf_if_lt hG (tgt := 13) dX4_timer_1 (by decide) ?_ ?_
  · refine gf_iconst hG (-1 : Int32) dX4_timer_13 (by decide) ?_
    exact tf_ret hC hrt rfl rfl dX4_timer_14
  · refine gf_iload_n hG dX4_timer_4 rfl rfl ?_
    refine gf_iconst hG (nI 0) dX4_timer_5 (by decide) ?_
    refine gf_iconst hG (nI 2) dX4_timer_6 (by decide) ?_
    refine tf_callS (f := fX4_in v2 (nI 0) (nI 2) t) (As := [.int v2, .int (nI 0), .int (nI 2)]) (rest := []) (n := 3) (d' := 1) (st1 := fun r1 => [.int r1]) hC hnL (wX4_in (gLn X) Z hC.2.2.1 v2 (nI 0) (nI 2) t) dX4_timer_7 (lw_S q1366 q1367 q78 q1368) (by decide +kernel) rfl (by decide) (by decide) (Nat.le_of_ble_eq_true rfl) (fun _ => rfl) (fun r1 t2 => ?_)
    refine gf_if_ne hG (tgt := 15) dX4_timer_10 (by decide) ?_ ?_
    · refine gf_iconst hG (-1 : Int32) dX4_timer_13 (by decide) ?_
      exact tf_ret hC hrt rfl rfl dX4_timer_14
    · refine gf_iconst hG (nI 0) dX4_timer_15 (by decide) ?_
      refine gf_istore_n hG dX4_timer_16 rfl (Nat.le_of_ble_eq_true rfl) (lv' := [(0, _), (1, _), (2, _), (3, _)]) rfl ?_
      refine gfX4_timer_L17 hC hnL hrt v1 v2 _ (fun t20 => ?_) FU (nI 0) t2
      refine gf_bipush hG (-2 : Int32) dX4_timer_156 (by decide) ?_
      exact tf_ret hC hrt rfl rfl dX4_timer_158
def fX4_bits_L4  (kx : Int32 → tSt → Option (Int32 × tSt)) : Nat → Int32 → Int32 → tSt → Option (Int32 × tSt)
  | 0, _, _, _ => none
  | k + 1, v1, v2, t =>
    if v2 = 0 then
      kx v1 t
    else
      letv (v1 + (nI 1)) (fun y1 =>
      letv ((v2 &&& (v2 - (nI 1)))) (fun y2 =>
      fX4_bits_L4 kx k y1 y2 t
      )
      )
set_option maxHeartbeats 4000000 in
theorem gfX4_bits_L4 {X : gCx} {Z : tZ} (hC : tOk X Z RX4 cX4_bits 1) (hnL : gLoc X = 3) (hrt : gRet X = (some .int))   (kx : Int32 → tSt → Option (Int32 × tSt)) (hkx : ∀ (v1 : Int32) (t : tSt), GF X (tM Z X 3 (fun x : Int32 => some (Value.int x))) (kx v1 t) t 20 [(1, .int v1)] []) : ∀ (k : Nat) (v1 : Int32) (v2 : Int32) (t : tSt), GF X (tM Z X 3 (fun x : Int32 => some (Value.int x))) (fX4_bits_L4 kx k v1 v2 t) t 4 [(1, .int v1), (2, .int v2)] [] := by
  have hG := hC.1
  intro k
  induction k with
  | zero => intro v1 v2 t; exact gf_none
  | succ k ih =>
    intro v1 v2 t
    rw [fX4_bits_L4]
    refine gf_iload_n hG dX4_bits_4 rfl rfl ?_
    refine gf_if_eq hG (tgt := 20) dX4_bits_5 (by decide) ?_ ?_
    · refine gf_sub [0] rfl ?_
      exact hkx v1 t
    · refine gf_letiinc hG (c := (nI 1)) (lv' := fun y1 => [(1, .int y1), (2, .int v2)]) dX4_bits_8 rfl (by decide) (Nat.le_of_ble_eq_true rfl) (fun _ => rfl) (fun y1 => ?_)
      refine gf_iload_n hG dX4_bits_11 rfl rfl ?_
      refine gf_iload_n hG dX4_bits_12 rfl rfl ?_
      refine gf_iconst hG (nI 1) dX4_bits_13 (by decide) ?_
      refine gf_isub hG dX4_bits_14 ?_
      refine gf_iand hG dX4_bits_15 ?_
      refine gf_letv (fun y2 hy2 => ?_)
      refine gf_istore_n hG dX4_bits_16 rfl (Nat.le_of_ble_eq_true rfl) (lv' := [(1, _), (2, _)]) rfl ?_
      refine gf_goto hG (tgt := 4) dX4_bits_17 (by decide) ?_
      exact ih y1 y2 t
def fX4_bits (v0 : Int32) (t : tSt) : Option (Int32 × tSt) :=
  fX4_bits_L4 (fun (v1_3 : Int32) (t4 : tSt) =>
    some (v1_3, t4)
    ) FU (nI 0) v0 t
set_option maxHeartbeats 4000000 in
theorem wX4_bits (l : Launch) (Z : tZ) (hj : tInj Z) (v0 : Int32) (t : tSt)  : ∀ (r : Int32) (t' : tSt), fX4_bits v0 t = some (r, t') → tCt l Z yX4_bits cX4_bits 3 (some .int) 1 [.int v0] t (some (.int r)) t' := by
  refine tmet (ρ := (fun x : Int32 => some (Value.int x))) (av := [.int v0]) hj (by decide +kernel) (Nat.le_of_ble_eq_true rfl) (lv_args_cat (List.forall_mem_cons.mpr ⟨rfl, fun _ h => absurd h List.not_mem_nil⟩)) ?_
  intro X hln hC hnL hrt
  subst hln
  have hG := hC.1
  show GF X (tM Z X 3 (fun x : Int32 => some (Value.int x))) _ t 0 [(0, .int v0)] []
  unfold fX4_bits
  refine gf_iconst hG (nI 0) dX4_bits_0 (by decide) ?_
  refine gf_istore_n hG dX4_bits_1 rfl (Nat.le_of_ble_eq_true rfl) (lv' := [(0, _), (1, _)]) rfl ?_
  refine gf_iload_n hG dX4_bits_2 rfl rfl ?_
  refine gf_istore_n hG dX4_bits_3 rfl (Nat.le_of_ble_eq_true rfl) (lv' := [(0, _), (1, _), (2, _)]) rfl ?_
  refine gf_sub [1, 2] rfl ?_
  refine gfX4_bits_L4 hC hnL hrt  _ (fun v1_3 t4 => ?_) FU (nI 0) v0 t
  refine gf_iload_n hG dX4_bits_20 rfl rfl ?_
  exact tf_ret hC hrt rfl rfl dX4_bits_21
