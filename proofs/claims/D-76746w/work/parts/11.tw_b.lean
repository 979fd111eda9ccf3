/-! walks, by program -/
def fX4_liveOnes_L4  (kx : Int32 → tSt → Option (Int32 × tSt)) : Nat → Int32 → Int32 → tSt → Option (Int32 × tSt)
  | 0, _, _, _ => none
  | k + 1, v1, v2, t =>
    rv (trd t 0 (nI 924)) (fun x1 =>
    if v2 < x1 then
      ob (fX4_isLive v2 t) (fun r2 t3 =>
      jn (fun (x4 : Int32) (t5 : tSt) =>
        letv ((v1 ||| x4)) (fun y7 =>
        letv (v2 + (nI 1)) (fun y8 =>
        fX4_liveOnes_L4 kx k y7 y8 t5
        )
        )
        ) (fun (j6 : Int32 → tSt → Option (Int32 × tSt)) =>
        if r2 = 0 then
          j6 (nI 0) t3
        else
          j6 (ishl32 (nI 1) v2) t3
        )
      )
    else
      kx v1 t
    )
set_option maxHeartbeats 4000000 in
theorem gfX4_liveOnes_L4 {X : gCx} {Z : tZ} (hC : tOk X Z RX4 cX4_liveOnes 3) (hnL : gLoc X = 3) (hrt : gRet X = (some .int))   (kx : Int32 → tSt → Option (Int32 × tSt)) (hkx : ∀ (v1 : Int32) (t : tSt), GF X (tM Z X 3 (fun x : Int32 => some (Value.int x))) (kx v1 t) t 40 [(1, .int v1)] []) : ∀ (k : Nat) (v1 : Int32) (v2 : Int32) (t : tSt), GF X (tM Z X 3 (fun x : Int32 => some (Value.int x))) (fX4_liveOnes_L4 kx k v1 v2 t) t 4 [(0, .ref (Z.2.2.2 18)), (1, .int v1), (2, .int v2)] [] := by
  have hG := hC.1
  intro k
  induction k with
  | zero => intro v1 v2 t; exact gf_none
  | succ k ih =>
    intro v1 v2 t
    rw [fX4_liveOnes_L4]
    refine gf_iload_n hG dX4_liveOnes_4 rfl rfl ?_
    refine gf_aload_n hG dX4_liveOnes_5 rfl rfl ?_
    refine tf_get hC 0 dX4_liveOnes_6 (by decide) q1287 rfl ?_
    refine gf_sipush hG (nI 924) dX4_liveOnes_9 (by decide) ?_
    refine tf_iald hC dX4_liveOnes_12 (by decide) (fun x1 => ?_)
    refine gf_icmp_ge hG (tgt := 40) dX4_liveOnes_13 (by decide) ?_ ?_
    · refine gf_iload_n hG dX4_liveOnes_16 rfl rfl ?_
      refine gf_aload_n hG dX4_liveOnes_17 rfl rfl ?_
      refine gf_iload_n hG dX4_liveOnes_18 rfl rfl ?_
      refine tf_callV (f := fX4_isLive v2 t) (As := [.int v2]) (rest := [.int v1]) (n := 1) (d' := 2) (st1 := fun r2 => [.int r2, .int v1]) hC hnL (wX4_isLive (gLn X) Z hC.2.2.1 v2 t) dX4_liveOnes_19 (lw_V q1372 q1374 qs32 q78 q1375) (by decide +kernel) rfl (by decide) (by decide) (Nat.le_of_ble_eq_true rfl) (fun _ => rfl) (fun r2 t3 => ?_)
      refine gf_jn (fun j_ => ∀ (x4 : Int32) (t5 : tSt), GF X (tM Z X 3 (fun x : Int32 => some (Value.int x))) (j_ x4 t5) t5 32 [(0, .ref (Z.2.2.2 18)), (2, .int v2)] [.int x4, .int v1]) (fun x4 t5 => ?_) (fun j6 hj6 => ?_)
      · refine gf_ior hG dX4_liveOnes_32 ?_
        refine gf_letv (fun y7 hy7 => ?_)
        refine gf_istore_n hG dX4_liveOnes_33 rfl (Nat.le_of_ble_eq_true rfl) (lv' := [(0, _), (1, _), (2, _)]) rfl ?_
        refine gf_letiinc hG (c := (nI 1)) (lv' := fun y8 => [(0, .ref (Z.2.2.2 18)), (1, .int y7), (2, .int y8)]) dX4_liveOnes_34 rfl (by decide) (Nat.le_of_ble_eq_true rfl) (fun _ => rfl) (fun y8 => ?_)
        refine gf_goto hG (tgt := 4) dX4_liveOnes_37 (by decide) ?_
        exact ih y7 y8 t5
      · refine gf_if_eq hG (tgt := 31) dX4_liveOnes_22 (by decide) ?_ ?_
        · refine gf_iconst hG (nI 0) dX4_liveOnes_31 (by decide) ?_
          refine gf_sub [0, 2] rfl ?_
          exact hj6 (nI 0) t3
        · refine gf_iconst hG (nI 1) dX4_liveOnes_25 (by decide) ?_
          refine gf_iload_n hG dX4_liveOnes_26 rfl rfl ?_
          refine gf_ishl hG dX4_liveOnes_27 ?_
          refine gf_goto hG (tgt := 32) dX4_liveOnes_28 (by decide) ?_
          refine gf_sub [0, 2] rfl ?_
          exact hj6 (ishl32 (nI 1) v2) t3
    · refine gf_sub [1] rfl ?_
      exact hkx v1 t
def fX4_liveOnes  (t : tSt) : Option (Int32 × tSt) :=
  fX4_liveOnes_L4 (fun (v1_9 : Int32) (t10 : tSt) =>
    some (v1_9, t10)
    ) FU (nI 0) (nI 0) t
set_option maxHeartbeats 4000000 in
theorem wX4_liveOnes (l : Launch) (Z : tZ) (hj : tInj Z)  (t : tSt)  : ∀ (r : Int32) (t' : tSt), fX4_liveOnes t = some (r, t') → tCt l Z yX4_liveOnes cX4_liveOnes 3 (some .int) 3 [.ref (Z.2.2.2 18)] t (some (.int r)) t' := by
  refine tmet (ρ := (fun x : Int32 => some (Value.int x))) (av := [.ref (Z.2.2.2 18)]) hj (by decide +kernel) (Nat.le_of_ble_eq_true rfl) (lv_args_cat (List.forall_mem_cons.mpr ⟨rfl, fun _ h => absurd h List.not_mem_nil⟩)) ?_
  intro X hln hC hnL hrt
  subst hln
  have hG := hC.1
  show GF X (tM Z X 3 (fun x : Int32 => some (Value.int x))) _ t 0 [(0, .ref (Z.2.2.2 18))] []
  unfold fX4_liveOnes
  refine gf_iconst hG (nI 0) dX4_liveOnes_0 (by decide) ?_
  refine gf_istore_n hG dX4_liveOnes_1 rfl (Nat.le_of_ble_eq_true rfl) (lv' := [(0, _), (1, _)]) rfl ?_
  refine gf_iconst hG (nI 0) dX4_liveOnes_2 (by decide) ?_
  refine gf_istore_n hG dX4_liveOnes_3 rfl (Nat.le_of_ble_eq_true rfl) (lv' := [(0, _), (1, _), (2, _)]) rfl ?_
  refine gfX4_liveOnes_L4 hC hnL hrt  _ (fun v1_9 t10 => ?_) FU (nI 0) (nI 0) t
  refine gf_iload_n hG dX4_liveOnes_40 rfl rfl ?_
  exact tf_ret hC hrt rfl rfl dX4_liveOnes_41
def fX4_forgets_L51 (v1 : Int32) (v2 : Int32) (v3 : Int32) (kx : tSt → Option (Unit × tSt)) : Nat → Int32 → tSt → Option (Unit × tSt)
  | 0, _, _ => none
  | k + 1, v4, t =>
    if v4 < (nI 3) then
      rv (trd t 0 (((nI 932) + ((nI 3) * v3)) + v4)) (fun x11 =>
      rv (twr t 0 (((nI 932) + ((nI 3) * v2)) + v4) x11) (fun t12 =>
      letv (v4 + (nI 1)) (fun y13 =>
      fX4_forgets_L51 v1 v2 v3 kx k y13 t12
      )
      )
      )
    else
      kx t
set_option maxHeartbeats 4000000 in
theorem gfX4_forgets_L51 {X : gCx} {Z : tZ} (hC : tOk X Z RX4 cX4_forgets 2) (hnL : gLoc X = 5) (hrt : gRet X = none) (v1 : Int32) (v2 : Int32) (v3 : Int32)  (kx : tSt → Option (Unit × tSt)) (hkx : ∀  (t : tSt), GF X (tM Z X 5 (fun _ : Unit => (none : Option Value))) (kx t) t 93 [(0, .ref (Z.2.2.2 18)), (1, .int v1), (2, .int v2), (3, .int v3)] []) : ∀ (k : Nat) (v4 : Int32) (t : tSt), GF X (tM Z X 5 (fun _ : Unit => (none : Option Value))) (fX4_forgets_L51 v1 v2 v3 kx k v4 t) t 51 [(0, .ref (Z.2.2.2 18)), (1, .int v1), (2, .int v2), (3, .int v3), (4, .int v4)] [] := by
  have hG := hC.1
  intro k
  induction k with
  | zero => intro v4 t; exact gf_none
  | succ k ih =>
    intro v4 t
    rw [fX4_forgets_L51]
    refine gf_iload hG dX4_forgets_51 rfl ?_
    refine gf_iconst hG (nI 3) dX4_forgets_53 (by decide) ?_
    refine gf_icmp_ge hG (tgt := 93) dX4_forgets_54 (by decide) ?_ ?_
    · refine gf_aload_n hG dX4_forgets_57 rfl rfl ?_
      refine tf_get hC 0 dX4_forgets_58 (by decide) q1287 rfl ?_
      refine gf_sipush hG (nI 932) dX4_forgets_61 (by decide) ?_
      refine gf_iconst hG (nI 3) dX4_forgets_64 (by decide) ?_
      refine gf_iload_n hG dX4_forgets_65 rfl rfl ?_
      refine gf_imul hG dX4_forgets_66 ?_
      refine gf_iadd hG dX4_forgets_67 ?_
      refine gf_iload hG dX4_forgets_68 rfl ?_
      refine gf_iadd hG dX4_forgets_70 ?_
      refine gf_aload_n hG dX4_forgets_71 rfl rfl ?_
      refine tf_get hC 0 dX4_forgets_72 (by decide) q1287 rfl ?_
      refine gf_sipush hG (nI 932) dX4_forgets_75 (by decide) ?_
      refine gf_iconst hG (nI 3) dX4_forgets_78 (by decide) ?_
      refine gf_iload_n hG dX4_forgets_79 rfl rfl ?_
      refine gf_imul hG dX4_forgets_80 ?_
      refine gf_iadd hG dX4_forgets_81 ?_
      refine gf_iload hG dX4_forgets_82 rfl ?_
      refine gf_iadd hG dX4_forgets_84 ?_
      refine tf_iald hC dX4_forgets_85 (by decide) (fun x11 => ?_)
      refine tf_iast hC dX4_forgets_86 (by decide) (fun t12 => ?_)
      refine gf_letiinc hG (c := (nI 1)) (lv' := fun y13 => [(0, .ref (Z.2.2.2 18)), (1, .int v1), (2, .int v2), (3, .int v3), (4, .int y13)]) dX4_forgets_87 rfl (by decide) (Nat.le_of_ble_eq_true rfl) (fun _ => rfl) (fun y13 => ?_)
      refine gf_goto hG (tgt := 51) dX4_forgets_90 (by decide) ?_
      exact ih y13 t12
    · refine gf_sub [0, 1, 2, 3] rfl ?_
      exact hkx t
def fX4_forgets_L20 (v1 : Int32) (kx : Int32 → tSt → Option (Unit × tSt)) : Nat → Int32 → Int32 → tSt → Option (Unit × tSt)
  | 0, _, _, _ => none
  | k + 1, v2, v3, t =>
    rv (trd t 0 (nI 931)) (fun x5 =>
    if v3 < x5 then
      rv (trd t 0 ((nI 932) + ((nI 3) * v3))) (fun x6 =>
      jn (fun (x7 : Int32) (t8 : tSt) =>
        letv (v3 + (nI 1)) (fun y10 =>
        fX4_forgets_L20 v1 kx k x7 y10 t8
        )
        ) (fun (j9 : Int32 → tSt → Option (Unit × tSt)) =>
        if x6 = v1 then
          j9 v2 t
        else
          fX4_forgets_L51 v1 v2 v3 (fun  (t14 : tSt) =>
            letv (v2 + (nI 1)) (fun y15 =>
            j9 y15 t14
            )
            ) FU (nI 0) t
        )
      )
    else
      kx v2 t
    )
set_option maxHeartbeats 4000000 in
theorem gfX4_forgets_L20 {X : gCx} {Z : tZ} (hC : tOk X Z RX4 cX4_forgets 2) (hnL : gLoc X = 5) (hrt : gRet X = none) (v1 : Int32)  (kx : Int32 → tSt → Option (Unit × tSt)) (hkx : ∀ (v2 : Int32) (t : tSt), GF X (tM Z X 5 (fun _ : Unit => (none : Option Value))) (kx v2 t) t 102 [(0, .ref (Z.2.2.2 18)), (2, .int v2)] []) : ∀ (k : Nat) (v2 : Int32) (v3 : Int32) (t : tSt), GF X (tM Z X 5 (fun _ : Unit => (none : Option Value))) (fX4_forgets_L20 v1 kx k v2 v3 t) t 20 [(0, .ref (Z.2.2.2 18)), (1, .int v1), (2, .int v2), (3, .int v3)] [] := by
  have hG := hC.1
  intro k
  induction k with
  | zero => intro v2 v3 t; exact gf_none
  | succ k ih =>
    intro v2 v3 t
    rw [fX4_forgets_L20]
    refine gf_iload_n hG dX4_forgets_20 rfl rfl ?_
    refine gf_aload_n hG dX4_forgets_21 rfl rfl ?_
    refine tf_get hC 0 dX4_forgets_22 (by decide) q1287 rfl ?_
    refine gf_sipush hG (nI 931) dX4_forgets_25 (by decide) ?_
    refine tf_iald hC dX4_forgets_28 (by decide) (fun x5 => ?_)
    refine gf_icmp_ge hG (tgt := 102) dX4_forgets_29 (by decide) ?_ ?_
    · refine gf_aload_n hG dX4_forgets_32 rfl rfl ?_
      refine tf_get hC 0 dX4_forgets_33 (by decide) q1287 rfl ?_
      refine gf_sipush hG (nI 932) dX4_forgets_36 (by decide) ?_
      refine gf_iconst hG (nI 3) dX4_forgets_39 (by decide) ?_
      refine gf_iload_n hG dX4_forgets_40 rfl rfl ?_
      refine gf_imul hG dX4_forgets_41 ?_
      refine gf_iadd hG dX4_forgets_42 ?_
      refine tf_iald hC dX4_forgets_43 (by decide) (fun x6 => ?_)
      refine gf_iload_n hG dX4_forgets_44 rfl rfl ?_
      refine gf_jn (fun j_ => ∀ (x7 : Int32) (t8 : tSt), GF X (tM Z X 5 (fun _ : Unit => (none : Option Value))) (j_ x7 t8) t8 96 [(0, .ref (Z.2.2.2 18)), (1, .int v1), (2, .int x7), (3, .int v3)] []) (fun x7 t8 => ?_) (fun j9 hj9 => ?_)
      · refine gf_letiinc hG (c := (nI 1)) (lv' := fun y10 => [(0, .ref (Z.2.2.2 18)), (1, .int v1), (2, .int x7), (3, .int y10)]) dX4_forgets_96 rfl (by decide) (Nat.le_of_ble_eq_true rfl) (fun _ => rfl) (fun y10 => ?_)
        refine gf_goto hG (tgt := 20) dX4_forgets_99 (by decide) ?_
        exact ih x7 y10 t8
      · refine gf_icmp_eq hG (tgt := 96) dX4_forgets_45 (by decide) ?_ ?_
        · exact hj9 v2 t
        · refine gf_iconst hG (nI 0) dX4_forgets_48 (by decide) ?_
          refine gf_istore hG dX4_forgets_49 (Nat.le_of_ble_eq_true rfl) (lv' := [(0, _), (1, _), (2, _), (3, _), (4, _)]) rfl ?_
          refine gfX4_forgets_L51 hC hnL hrt v1 v2 v3 _ (fun t14 => ?_) FU (nI 0) t
          refine gf_letiinc hG (c := (nI 1)) (lv' := fun y15 => [(0, .ref (Z.2.2.2 18)), (1, .int v1), (2, .int y15), (3, .int v3)]) dX4_forgets_93 rfl (by decide) (Nat.le_of_ble_eq_true rfl) (fun _ => rfl) (fun y15 => ?_)
          exact hj9 y15 t14
    · refine gf_sub [0, 2] rfl ?_
      exact hkx v2 t
def fX4_forgets (v1 : Int32) (t : tSt) : Option (Unit × tSt) :=
  ob (fX4_sets v1 (nI 7) (nI 1) t) (fun r1 t2 =>
  ob (fX4_sets v1 (nI 64) (nI 0) t2) (fun r3 t4 =>
  fX4_forgets_L20 v1 (fun (v2_16 : Int32) (t17 : tSt) =>
    rv (twr t17 0 (nI 931) v2_16) (fun t18 =>
    some ((), t18)
    )
    ) FU (nI 0) (nI 0) t4
  )
  )
set_option maxHeartbeats 4000000 in
theorem wX4_forgets (l : Launch) (Z : tZ) (hj : tInj Z) (v1 : Int32) (t : tSt)  : ∀ (r : Unit) (t' : tSt), fX4_forgets v1 t = some (r, t') → tCt l Z yX4_forgets cX4_forgets 5 none 2 [.ref (Z.2.2.2 18), .int v1] t none t' := by
  refine tmet (ρ := (fun _ : Unit => (none : Option Value))) (av := [.ref (Z.2.2.2 18), .int v1]) hj (by decide +kernel) (Nat.le_of_ble_eq_true rfl) (lv_args_cat (List.forall_mem_cons.mpr ⟨rfl, List.forall_mem_cons.mpr ⟨rfl, fun _ h => absurd h List.not_mem_nil⟩⟩)) ?_
  intro X hln hC hnL hrt
  subst hln
  have hG := hC.1
  show GF X (tM Z X 5 (fun _ : Unit => (none : Option Value))) _ t 0 [(0, .ref (Z.2.2.2 18)), (1, .int v1)] []
  unfold fX4_forgets
  refine gf_aload_n hG dX4_forgets_0 rfl rfl ?_
  refine gf_iload_n hG dX4_forgets_1 rfl rfl ?_
  refine gf_bipush hG (nI 7) dX4_forgets_2 (by decide) ?_
  refine gf_iconst hG (nI 1) dX4_forgets_4 (by decide) ?_
  refine tf_callV (f := fX4_sets v1 (nI 7) (nI 1) t) (As := [.int v1, .int (nI 7), .int (nI 1)]) (rest := []) (n := 3) (d' := 1) (st1 := fun _ => []) hC hnL (wX4_sets (gLn X) Z hC.2.2.1 v1 (nI 7) (nI 1) t) dX4_forgets_5 (lw_V q1380 q1382 qs34 q78 q1383) (by decide +kernel) rfl (by decide) (by decide) (Nat.le_of_ble_eq_true rfl) (fun _ => rfl) (fun r1 t2 => ?_)
  refine gf_aload_n hG dX4_forgets_8 rfl rfl ?_
  refine gf_iload_n hG dX4_forgets_9 rfl rfl ?_
  refine gf_bipush hG (nI 64) dX4_forgets_10 (by decide) ?_
  refine gf_iconst hG (nI 0) dX4_forgets_12 (by decide) ?_
  refine tf_callV (f := fX4_sets v1 (nI 64) (nI 0) t2) (As := [.int v1, .int (nI 64), .int (nI 0)]) (rest := []) (n := 3) (d' := 1) (st1 := fun _ => []) hC hnL (wX4_sets (gLn X) Z hC.2.2.1 v1 (nI 64) (nI 0) t2) dX4_forgets_13 (lw_V q1380 q1382 qs34 q78 q1383) (by decide +kernel) rfl (by decide) (by decide) (Nat.le_of_ble_eq_true rfl) (fun _ => rfl) (fun r3 t4 => ?_)
  refine gf_iconst hG (nI 0) dX4_forgets_16 (by decide) ?_
  refine gf_istore_n hG dX4_forgets_17 rfl (Nat.le_of_ble_eq_true rfl) (lv' := [(0, _), (1, _), (2, _)]) rfl ?_
  refine gf_iconst hG (nI 0) dX4_forgets_18 (by decide) ?_
  refine gf_istore_n hG dX4_forgets_19 rfl (Nat.le_of_ble_eq_true rfl) (lv' := [(0, _), (1, _), (2, _), (3, _)]) rfl ?_
  refine gfX4_forgets_L20 hC hnL hrt v1 _ (fun v2_16 t17 => ?_) FU (nI 0) (nI 0) t4
  refine gf_aload_n hG dX4_forgets_102 rfl rfl ?_
  refine tf_get hC 0 dX4_forgets_103 (by decide) q1287 rfl ?_
  refine gf_sipush hG (nI 931) dX4_forgets_106 (by decide) ?_
  refine gf_iload_n hG dX4_forgets_109 rfl rfl ?_
  refine tf_iast hC dX4_forgets_110 (by decide) (fun t18 => ?_)
  exact tf_vret hC hrt rfl dX4_forgets_111
def fX4_isLiveChild (v1 : Int32) (v2 : Int32) (t : tSt) : Option (Int32 × tSt) :=
  ob (fX4_at v1 (nI 0) t) (fun r1 t2 =>
  if r1 = v2 then
    ob (fX4_isLive v1 t2) (fun r3 t4 =>
    if r3 = 0 then
      some ((nI 0), t4)
    else
      some ((nI 1), t4)
    )
  else
    some ((nI 0), t2)
  )
set_option maxHeartbeats 4000000 in
theorem wX4_isLiveChild (l : Launch) (Z : tZ) (hj : tInj Z) (v1 : Int32) (v2 : Int32) (t : tSt)  : ∀ (r : Int32) (t' : tSt), fX4_isLiveChild v1 v2 t = some (r, t') → tCt l Z yX4_isLiveChild cX4_isLiveChild 3 (some .boolean) 3 [.ref (Z.2.2.2 18), .int v1, .int v2] t (some (.int r)) t' := by
  refine tmet (ρ := (fun x : Int32 => some (Value.int x))) (av := [.ref (Z.2.2.2 18), .int v1, .int v2]) hj (by decide +kernel) (Nat.le_of_ble_eq_true rfl) (lv_args_cat (List.forall_mem_cons.mpr ⟨rfl, List.forall_mem_cons.mpr ⟨rfl, List.forall_mem_cons.mpr ⟨rfl, fun _ h => absurd h List.not_mem_nil⟩⟩⟩)) ?_
  intro X hln hC hnL hrt
  subst hln
  have hG := hC.1
  show GF X (tM Z X 3 (fun x : Int32 => some (Value.int x))) _ t 0 [(0, .ref (Z.2.2.2 18)), (1, .int v1), (2, .int v2)] []
  unfold fX4_isLiveChild
  refine gf_aload_n hG dX4_isLiveChild_0 rfl rfl ?_
  refine gf_iload_n hG dX4_isLiveChild_1 rfl rfl ?_
  refine gf_iconst hG (nI 0) dX4_isLiveChild_2 (by decide) ?_
  refine tf_callV (f := fX4_at v1 (nI 0) t) (As := [.int v1, .int (nI 0)]) (rest := []) (n := 2) (d' := 1) (st1 := fun r1 => [.int r1]) hC hnL (wX4_at (gLn X) Z hC.2.2.1 v1 (nI 0) t) dX4_isLiveChild_3 (lw_V q1376 q1378 qs33 q78 q1379) (by decide +kernel) rfl (by decide) (by decide) (Nat.le_of_ble_eq_true rfl) (fun _ => rfl) (fun r1 t2 => ?_)
  refine gf_iload_n hG dX4_isLiveChild_6 rfl rfl ?_
  refine gf_icmp_ne hG (tgt := 22) dX4_isLiveChild_7 (by decide) ?_ ?_
  · refine gf_aload_n hG dX4_isLiveChild_10 rfl rfl ?_
    refine gf_iload_n hG dX4_isLiveChild_11 rfl rfl ?_
    refine tf_callV (f := fX4_isLive v1 t2) (As := [.int v1]) (rest := []) (n := 1) (d' := 2) (st1 := fun r3 => [.int r3]) hC hnL (wX4_isLive (gLn X) Z hC.2.2.1 v1 t2) dX4_isLiveChild_12 (lw_V q1372 q1374 qs32 q78 q1375) (by decide +kernel) rfl (by decide) (by decide) (Nat.le_of_ble_eq_true rfl) (fun _ => rfl) (fun r3 t4 => ?_)
    refine gf_if_eq hG (tgt := 22) dX4_isLiveChild_15 (by decide) ?_ ?_
    · refine gf_iconst hG (nI 0) dX4_isLiveChild_22 (by decide) ?_
      exact tf_ret hC hrt (by decide) rfl dX4_isLiveChild_23
    · refine gf_iconst hG (nI 1) dX4_isLiveChild_18 (by decide) ?_
      refine gf_goto hG (tgt := 23) dX4_isLiveChild_19 (by decide) ?_
      exact tf_ret hC hrt (by decide) rfl dX4_isLiveChild_23
  · refine gf_iconst hG (nI 0) dX4_isLiveChild_22 (by decide) ?_
    exact tf_ret hC hrt (by decide) rfl dX4_isLiveChild_23
def fX4_stopsChildren_L11 (rec : Int32 → tSt → Option (Unit × tSt)) (v1 : Int32) (kx : tSt → Option (Unit × tSt)) : Nat → Int32 → tSt → Option (Unit × tSt)
  | 0, _, _ => none
  | k + 1, v2, t =>
    if v1 < v2 then
      ob (fX4_isLiveChild v2 v1 t) (fun r3 t4 =>
      jn (fun  (t5 : tSt) =>
        letv (v2 + (-1 : Int32)) (fun y7 =>
        fX4_stopsChildren_L11 rec v1 kx k y7 t5
        )
        ) (fun (j6 : tSt → Option (Unit × tSt)) =>
        if r3 = 0 then
          j6 t4
        else
          ob (rec v2 t4) (fun r8 t9 =>
          j6 t9
          )
        )
      )
    else
      kx t
set_option maxHeartbeats 4000000 in
theorem gfX4_stopsChildren_L11 {X : gCx} {Z : tZ} {rec : Int32 → tSt → Option (Unit × tSt)} {dr : Nat} (hC : tOk X Z RX4 cX4_stopsChildren (dr + 1)) (hnL : gLoc X = 3) (hrt : gRet X = none) (h12 : 12 ≤ dr) (hrec : ∀ (a : Int32) (t : tSt) (r : Unit) (t' : tSt), rec a t = some (r, t') → tCt (gLn X) Z yX4_stops cX4_stops 4 none dr [.ref (Z.2.2.2 18), .int a] t none t') (v1 : Int32)  (kx : tSt → Option (Unit × tSt)) (hkx : ∀  (t : tSt), GF X (tM Z X 3 (fun _ : Unit => (none : Option Value))) (kx t) t 36 [] []) : ∀ (k : Nat) (v2 : Int32) (t : tSt), GF X (tM Z X 3 (fun _ : Unit => (none : Option Value))) (fX4_stopsChildren_L11 rec v1 kx k v2 t) t 11 [(0, .ref (Z.2.2.2 18)), (1, .int v1), (2, .int v2)] [] := by
  have hG := hC.1
  intro k
  induction k with
  | zero => intro v2 t; exact gf_none
  | succ k ih =>
    intro v2 t
    rw [fX4_stopsChildren_L11]
    refine gf_iload_n hG dX4_stopsChildren_11 rfl rfl ?_
    refine gf_iload_n hG dX4_stopsChildren_12 rfl rfl ?_
    refine gf_icmp_le hG (tgt := 36) dX4_stopsChildren_13 (by decide) ?_ ?_
    · refine gf_aload_n hG dX4_stopsChildren_16 rfl rfl ?_
      refine gf_iload_n hG dX4_stopsChildren_17 rfl rfl ?_
      refine gf_iload_n hG dX4_stopsChildren_18 rfl rfl ?_
      refine tf_callV (f := fX4_isLiveChild v2 v1 t) (As := [.int v2, .int v1]) (rest := []) (n := 2) (d' := 3) (st1 := fun r3 => [.int r3]) hC hnL (wX4_isLiveChild (gLn X) Z hC.2.2.1 v2 v1 t) dX4_stopsChildren_19 (lw_V q1463 q1465 qs44 q78 q1466) (by decide +kernel) rfl (by omega) (by decide) (Nat.le_of_ble_eq_true rfl) (fun _ => rfl) (fun r3 t4 => ?_)
      refine gf_jn (fun j_ => ∀  (t5 : tSt), GF X (tM Z X 3 (fun _ : Unit => (none : Option Value))) (j_ t5) t5 30 [(0, .ref (Z.2.2.2 18)), (1, .int v1), (2, .int v2)] []) (fun t5 => ?_) (fun j6 hj6 => ?_)
      · refine gf_letiinc hG (c := (-1 : Int32)) (lv' := fun y7 => [(0, .ref (Z.2.2.2 18)), (1, .int v1), (2, .int y7)]) dX4_stopsChildren_30 rfl (by decide) (Nat.le_of_ble_eq_true rfl) (fun _ => rfl) (fun y7 => ?_)
        refine gf_goto hG (tgt := 11) dX4_stopsChildren_33 (by decide) ?_
        exact ih y7 t5
      · refine gf_if_eq hG (tgt := 30) dX4_stopsChildren_22 (by decide) ?_ ?_
        · exact hj6 t4
        · refine gf_aload_n hG dX4_stopsChildren_25 rfl rfl ?_
          refine gf_iload_n hG dX4_stopsChildren_26 rfl rfl ?_
          refine tf_callV (f := rec v2 t4) (As := [.int v2]) (rest := []) (n := 1) (d' := dr) (st1 := fun _ => []) hC hnL (hrec v2 t4) dX4_stopsChildren_27 (lw_V q1455 q1457 qs42 q78 q1458) (by decide +kernel) rfl (Nat.le_refl _) (by decide) (Nat.le_of_ble_eq_true rfl) (fun _ => rfl) (fun r8 t9 => ?_)
          exact hj6 t9
    · refine gf_sub [] rfl ?_
      exact hkx t
def fX4_stopsChildren (rec : Int32 → tSt → Option (Unit × tSt)) (v1 : Int32) (t : tSt) : Option (Unit × tSt) :=
  rv (trd t 0 (nI 924)) (fun x1 =>
  letv ((x1 - (nI 1))) (fun y2 =>
  fX4_stopsChildren_L11 rec v1 (fun  (t10 : tSt) =>
    some ((), t10)
    ) FU y2 t
  )
  )
set_option maxHeartbeats 4000000 in
theorem wX4_stopsChildren (l : Launch) (Z : tZ) (hj : tInj Z) (rec : Int32 → tSt → Option (Unit × tSt)) (dr : Nat) (h12 : 12 ≤ dr) (hrec : ∀ (a : Int32) (t : tSt) (r : Unit) (t' : tSt), rec a t = some (r, t') → tCt l Z yX4_stops cX4_stops 4 none dr [.ref (Z.2.2.2 18), .int a] t none t') (v1 : Int32) (t : tSt) : ∀ (r : Unit) (t' : tSt), fX4_stopsChildren rec v1 t = some (r, t') → tCt l Z yX4_stopsChildren cX4_stopsChildren 3 none (dr + 1) [.ref (Z.2.2.2 18), .int v1] t none t' := by
  refine tmet (ρ := (fun _ : Unit => (none : Option Value))) (av := [.ref (Z.2.2.2 18), .int v1]) hj (by decide +kernel) (Nat.le_of_ble_eq_true rfl) (lv_args_cat (List.forall_mem_cons.mpr ⟨rfl, List.forall_mem_cons.mpr ⟨rfl, fun _ h => absurd h List.not_mem_nil⟩⟩)) ?_
  intro X hln hC hnL hrt
  subst hln
  have hG := hC.1
  show GF X (tM Z X 3 (fun _ : Unit => (none : Option Value))) _ t 0 [(0, .ref (Z.2.2.2 18)), (1, .int v1)] []
  unfold fX4_stopsChildren
  refine gf_aload_n hG dX4_stopsChildren_0 rfl rfl ?_
  refine tf_get hC 0 dX4_stopsChildren_1 (by decide) q1287 rfl ?_
  refine gf_sipush hG (nI 924) dX4_stopsChildren_4 (by decide) ?_
  refine tf_iald hC dX4_stopsChildren_7 (by decide) (fun x1 => ?_)
  refine gf_iconst hG (nI 1) dX4_stopsChildren_8 (by decide) ?_
  refine gf_isub hG dX4_stopsChildren_9 ?_
  refine gf_letv (fun y2 hy2 => ?_)
  refine gf_istore_n hG dX4_stopsChildren_10 rfl (Nat.le_of_ble_eq_true rfl) (lv' := [(0, _), (1, _), (2, _)]) rfl ?_
  refine gfX4_stopsChildren_L11 hC hnL hrt h12 hrec v1 _ (fun t10 => ?_) FU y2 t
  exact tf_vret hC hrt rfl dX4_stopsChildren_36
def fX4_unwatches_L28 (v1 : Int32) (v2 : Int32) (v4 : Int32) (kx : Int32 → tSt → Option (Unit × tSt)) : Nat → Int32 → Int32 → tSt → Option (Unit × tSt)
  | 0, _, _, _ => none
  | k + 1, v3, v5, t =>
    if v5 < v4 then
      ob (fX4_at v2 ((nI 52) + v5) t) (fun r4 t5 =>
      jn (fun (x6 : Int32) (t7 : tSt) =>
        letv (v5 + (nI 1)) (fun y9 =>
        fX4_unwatches_L28 v1 v2 v4 kx k x6 y9 t7
        )
        ) (fun (j8 : Int32 → tSt → Option (Unit × tSt)) =>
        if r4 = v1 then
          j8 v3 t5
        else
          ob (fX4_at v2 ((nI 52) + v5) t5) (fun r10 t11 =>
          ob (fX4_sets v2 ((nI 52) + v3) r10 t11) (fun r12 t13 =>
          letv (v3 + (nI 1)) (fun y14 =>
          j8 y14 t13
          )
          )
          )
        )
      )
    else
      kx v3 t
set_option maxHeartbeats 4000000 in
theorem gfX4_unwatches_L28 {X : gCx} {Z : tZ} (hC : tOk X Z RX4 cX4_unwatches 2) (hnL : gLoc X = 6) (hrt : gRet X = none) (v1 : Int32) (v2 : Int32) (v4 : Int32)  (kx : Int32 → tSt → Option (Unit × tSt)) (hkx : ∀ (v3 : Int32) (t : tSt), GF X (tM Z X 6 (fun _ : Unit => (none : Option Value))) (kx v3 t) t 77 [(0, .ref (Z.2.2.2 18)), (1, .int v1), (2, .int v2), (3, .int v3)] []) : ∀ (k : Nat) (v3 : Int32) (v5 : Int32) (t : tSt), GF X (tM Z X 6 (fun _ : Unit => (none : Option Value))) (fX4_unwatches_L28 v1 v2 v4 kx k v3 v5 t) t 28 [(0, .ref (Z.2.2.2 18)), (1, .int v1), (2, .int v2), (3, .int v3), (4, .int v4), (5, .int v5)] [] := by
  have hG := hC.1
  intro k
  induction k with
  | zero => intro v3 v5 t; exact gf_none
  | succ k ih =>
    intro v3 v5 t
    rw [fX4_unwatches_L28]
    refine gf_iload hG dX4_unwatches_28 rfl ?_
    refine gf_iload hG dX4_unwatches_30 rfl ?_
    refine gf_icmp_ge hG (tgt := 77) dX4_unwatches_32 (by decide) ?_ ?_
    · refine gf_aload_n hG dX4_unwatches_35 rfl rfl ?_
      refine gf_iload_n hG dX4_unwatches_36 rfl rfl ?_
      refine gf_bipush hG (nI 52) dX4_unwatches_37 (by decide) ?_
      refine gf_iload hG dX4_unwatches_39 rfl ?_
      refine gf_iadd hG dX4_unwatches_41 ?_
      refine tf_callV (f := fX4_at v2 ((nI 52) + v5) t) (As := [.int v2, .int ((nI 52) + v5)]) (rest := []) (n := 2) (d' := 1) (st1 := fun r4 => [.int r4]) hC hnL (wX4_at (gLn X) Z hC.2.2.1 v2 ((nI 52) + v5) t) dX4_unwatches_42 (lw_V q1376 q1378 qs33 q78 q1379) (by decide +kernel) rfl (by decide) (by decide) (Nat.le_of_ble_eq_true rfl) (fun _ => rfl) (fun r4 t5 => ?_)
      refine gf_iload_n hG dX4_unwatches_45 rfl rfl ?_
      refine gf_jn (fun j_ => ∀ (x6 : Int32) (t7 : tSt), GF X (tM Z X 6 (fun _ : Unit => (none : Option Value))) (j_ x6 t7) t7 71 [(0, .ref (Z.2.2.2 18)), (1, .int v1), (2, .int v2), (3, .int x6), (4, .int v4), (5, .int v5)] []) (fun x6 t7 => ?_) (fun j8 hj8 => ?_)
      · refine gf_letiinc hG (c := (nI 1)) (lv' := fun y9 => [(0, .ref (Z.2.2.2 18)), (1, .int v1), (2, .int v2), (3, .int x6), (4, .int v4), (5, .int y9)]) dX4_unwatches_71 rfl (by decide) (Nat.le_of_ble_eq_true rfl) (fun _ => rfl) (fun y9 => ?_)
        refine gf_goto hG (tgt := 28) dX4_unwatches_74 (by decide) ?_
        exact ih x6 y9 t7
      · refine gf_icmp_eq hG (tgt := 71) dX4_unwatches_46 (by decide) ?_ ?_
        · exact hj8 v3 t5
        · refine gf_aload_n hG dX4_unwatches_49 rfl rfl ?_
          refine gf_iload_n hG dX4_unwatches_50 rfl rfl ?_
          refine gf_bipush hG (nI 52) dX4_unwatches_51 (by decide) ?_
          refine gf_iload_n hG dX4_unwatches_53 rfl rfl ?_
          refine gf_iadd hG dX4_unwatches_54 ?_
          refine gf_aload_n hG dX4_unwatches_55 rfl rfl ?_
          refine gf_iload_n hG dX4_unwatches_56 rfl rfl ?_
          refine gf_bipush hG (nI 52) dX4_unwatches_57 (by decide) ?_
          refine gf_iload hG dX4_unwatches_59 rfl ?_
          refine gf_iadd hG dX4_unwatches_61 ?_
          refine tf_callV (f := fX4_at v2 ((nI 52) + v5) t5) (As := [.int v2, .int ((nI 52) + v5)]) (rest := [.int ((nI 52) + v3), .int v2, .ref (Z.2.2.2 18)]) (n := 2) (d' := 1) (st1 := fun r10 => [.int r10, .int ((nI 52) + v3), .int v2, .ref (Z.2.2.2 18)]) hC hnL (wX4_at (gLn X) Z hC.2.2.1 v2 ((nI 52) + v5) t5) dX4_unwatches_62 (lw_V q1376 q1378 qs33 q78 q1379) (by decide +kernel) rfl (by decide) (by decide) (Nat.le_of_ble_eq_true rfl) (fun _ => rfl) (fun r10 t11 => ?_)
          refine tf_callV (f := fX4_sets v2 ((nI 52) + v3) r10 t11) (As := [.int v2, .int ((nI 52) + v3), .int r10]) (rest := []) (n := 3) (d' := 1) (st1 := fun _ => []) hC hnL (wX4_sets (gLn X) Z hC.2.2.1 v2 ((nI 52) + v3) r10 t11) dX4_unwatches_65 (lw_V q1380 q1382 qs34 q78 q1383) (by decide +kernel) rfl (by decide) (by decide) (Nat.le_of_ble_eq_true rfl) (fun _ => rfl) (fun r12 t13 => ?_)
          refine gf_letiinc hG (c := (nI 1)) (lv' := fun y14 => [(0, .ref (Z.2.2.2 18)), (1, .int v1), (2, .int v2), (3, .int y14), (4, .int v4), (5, .int v5)]) dX4_unwatches_68 rfl (by decide) (Nat.le_of_ble_eq_true rfl) (fun _ => rfl) (fun y14 => ?_)
          exact hj8 y14 t13
    · refine gf_sub [0, 1, 2, 3] rfl ?_
      exact hkx v3 t
def fX4_unwatches_L2 (v1 : Int32) (kx : tSt → Option (Unit × tSt)) : Nat → Int32 → tSt → Option (Unit × tSt)
  | 0, _, _ => none
  | k + 1, v2, t =>
    rv (trd t 0 (nI 924)) (fun x1 =>
    if v2 < x1 then
      ob (fX4_at v2 (nI 51) t) (fun r2 t3 =>
      fX4_unwatches_L28 v1 v2 r2 (fun (v3_15 : Int32) (t16 : tSt) =>
        ob (fX4_sets v2 (nI 51) v3_15 t16) (fun r17 t18 =>
        letv (v2 + (nI 1)) (fun y19 =>
        fX4_unwatches_L2 v1 kx k y19 t18
        )
        )
        ) FU (nI 0) (nI 0) t3
      )
    else
      kx t
    )
set_option maxHeartbeats 4000000 in
theorem gfX4_unwatches_L2 {X : gCx} {Z : tZ} (hC : tOk X Z RX4 cX4_unwatches 2) (hnL : gLoc X = 6) (hrt : gRet X = none) (v1 : Int32)  (kx : tSt → Option (Unit × tSt)) (hkx : ∀  (t : tSt), GF X (tM Z X 6 (fun _ : Unit => (none : Option Value))) (kx t) t 91 [] []) : ∀ (k : Nat) (v2 : Int32) (t : tSt), GF X (tM Z X 6 (fun _ : Unit => (none : Option Value))) (fX4_unwatches_L2 v1 kx k v2 t) t 2 [(0, .ref (Z.2.2.2 18)), (1, .int v1), (2, .int v2)] [] := by
  have hG := hC.1
  intro k
  induction k with
  | zero => intro v2 t; exact gf_none
  | succ k ih =>
    intro v2 t
    rw [fX4_unwatches_L2]
    refine gf_iload_n hG dX4_unwatches_2 rfl rfl ?_
    refine gf_aload_n hG dX4_unwatches_3 rfl rfl ?_
    refine tf_get hC 0 dX4_unwatches_4 (by decide) q1287 rfl ?_
    refine gf_sipush hG (nI 924) dX4_unwatches_7 (by decide) ?_
    refine tf_iald hC dX4_unwatches_10 (by decide) (fun x1 => ?_)
    refine gf_icmp_ge hG (tgt := 91) dX4_unwatches_11 (by decide) ?_ ?_
    · refine gf_iconst hG (nI 0) dX4_unwatches_14 (by decide) ?_
      refine gf_istore_n hG dX4_unwatches_15 rfl (Nat.le_of_ble_eq_true rfl) (lv' := [(0, _), (1, _), (2, _), (3, _)]) rfl ?_
      refine gf_aload_n hG dX4_unwatches_16 rfl rfl ?_
      refine gf_iload_n hG dX4_unwatches_17 rfl rfl ?_
      refine gf_bipush hG (nI 51) dX4_unwatches_18 (by decide) ?_
      refine tf_callV (f := fX4_at v2 (nI 51) t) (As := [.int v2, .int (nI 51)]) (rest := []) (n := 2) (d' := 1) (st1 := fun r2 => [.int r2]) hC hnL (wX4_at (gLn X) Z hC.2.2.1 v2 (nI 51) t) dX4_unwatches_20 (lw_V q1376 q1378 qs33 q78 q1379) (by decide +kernel) rfl (by decide) (by decide) (Nat.le_of_ble_eq_true rfl) (fun _ => rfl) (fun r2 t3 => ?_)
      refine gf_istore hG dX4_unwatches_23 (Nat.le_of_ble_eq_true rfl) (lv' := [(0, _), (1, _), (2, _), (3, _), (4, _)]) rfl ?_
      refine gf_iconst hG (nI 0) dX4_unwatches_25 (by decide) ?_
      refine gf_istore hG dX4_unwatches_26 (Nat.le_of_ble_eq_true rfl) (lv' := [(0, _), (1, _), (2, _), (3, _), (4, _), (5, _)]) rfl ?_
      refine gfX4_unwatches_L28 hC hnL hrt v1 v2 r2 _ (fun v3_15 t16 => ?_) FU (nI 0) (nI 0) t3
      refine gf_aload_n hG dX4_unwatches_77 rfl rfl ?_
      refine gf_iload_n hG dX4_unwatches_78 rfl rfl ?_
      refine gf_bipush hG (nI 51) dX4_unwatches_79 (by decide) ?_
      refine gf_iload_n hG dX4_unwatches_81 rfl rfl ?_
      refine tf_callV (f := fX4_sets v2 (nI 51) v3_15 t16) (As := [.int v2, .int (nI 51), .int v3_15]) (rest := []) (n := 3) (d' := 1) (st1 := fun _ => []) hC hnL (wX4_sets (gLn X) Z hC.2.2.1 v2 (nI 51) v3_15 t16) dX4_unwatches_82 (lw_V q1380 q1382 qs34 q78 q1383) (by decide +kernel) rfl (by decide) (by decide) (Nat.le_of_ble_eq_true rfl) (fun _ => rfl) (fun r17 t18 => ?_)
      refine gf_letiinc hG (c := (nI 1)) (lv' := fun y19 => [(0, .ref (Z.2.2.2 18)), (1, .int v1), (2, .int y19), (3, .int v3_15)]) dX4_unwatches_85 rfl (by decide) (Nat.le_of_ble_eq_true rfl) (fun _ => rfl) (fun y19 => ?_)
      refine gf_goto hG (tgt := 2) dX4_unwatches_88 (by decide) ?_
      refine gf_sub [0, 1, 2] rfl ?_
      exact ih y19 t18
    · refine gf_sub [] rfl ?_
      exact hkx t
def fX4_unwatches (v1 : Int32) (t : tSt) : Option (Unit × tSt) :=
  fX4_unwatches_L2 v1 (fun  (t20 : tSt) =>
    some ((), t20)
    ) FU (nI 0) t
set_option maxHeartbeats 4000000 in
theorem wX4_unwatches (l : Launch) (Z : tZ) (hj : tInj Z) (v1 : Int32) (t : tSt)  : ∀ (r : Unit) (t' : tSt), fX4_unwatches v1 t = some (r, t') → tCt l Z yX4_unwatches cX4_unwatches 6 none 2 [.ref (Z.2.2.2 18), .int v1] t none t' := by
  refine tmet (ρ := (fun _ : Unit => (none : Option Value))) (av := [.ref (Z.2.2.2 18), .int v1]) hj (by decide +kernel) (Nat.le_of_ble_eq_true rfl) (lv_args_cat (List.forall_mem_cons.mpr ⟨rfl, List.forall_mem_cons.mpr ⟨rfl, fun _ h => absurd h List.not_mem_nil⟩⟩)) ?_
  intro X hln hC hnL hrt
  subst hln
  have hG := hC.1
  show GF X (tM Z X 6 (fun _ : Unit => (none : Option Value))) _ t 0 [(0, .ref (Z.2.2.2 18)), (1, .int v1)] []
  unfold fX4_unwatches
  refine gf_iconst hG (nI 0) dX4_unwatches_0 (by decide) ?_
  refine gf_istore_n hG dX4_unwatches_1 rfl (Nat.le_of_ble_eq_true rfl) (lv' := [(0, _), (1, _), (2, _)]) rfl ?_
  refine gfX4_unwatches_L2 hC hnL hrt v1 _ (fun t20 => ?_) FU (nI 0) t
  exact tf_vret hC hrt rfl dX4_unwatches_91
def fX4_stops_L56 (v1 : Int32) (v2 : Int32) (kx : tSt → Option (Unit × tSt)) : Nat → Int32 → tSt → Option (Unit × tSt)
  | 0, _, _ => none
  | k + 1, v3, t =>
    if v3 < v2 then
      ob (fX4_at v1 ((nI 52) + v3) t) (fun r17 t18 =>
      ob (fX4_sends r17 (-1 : Int32) ((nI 1000) + v1) t18) (fun r19 t20 =>
      letv (v3 + (nI 1)) (fun y21 =>
      fX4_stops_L56 v1 v2 kx k y21 t20
      )
      )
      )
    else
      kx t
set_option maxHeartbeats 4000000 in
theorem gfX4_stops_L56 {X : gCx} {Z : tZ} {n : Nat} (hC : tOk X Z RX4 cX4_stops (12 + 2 * (n + 1))) (hnL : gLoc X = 4) (hrt : gRet X = none) (v1 : Int32) (v2 : Int32)  (kx : tSt → Option (Unit × tSt)) (hkx : ∀  (t : tSt), GF X (tM Z X 4 (fun _ : Unit => (none : Option Value))) (kx t) t 87 [] []) : ∀ (k : Nat) (v3 : Int32) (t : tSt), GF X (tM Z X 4 (fun _ : Unit => (none : Option Value))) (fX4_stops_L56 v1 v2 kx k v3 t) t 56 [(0, .ref (Z.2.2.2 18)), (1, .int v1), (2, .int v2), (3, .int v3)] [] := by
  have hG := hC.1
  intro k
  induction k with
  | zero => intro v3 t; exact gf_none
  | succ k ih =>
    intro v3 t
    rw [fX4_stops_L56]
    refine gf_iload_n hG dX4_stops_56 rfl rfl ?_
    refine gf_iload_n hG dX4_stops_57 rfl rfl ?_
    refine gf_icmp_ge hG (tgt := 87) dX4_stops_58 (by decide) ?_ ?_
    · refine gf_aload_n hG dX4_stops_61 rfl rfl ?_
      refine gf_aload_n hG dX4_stops_62 rfl rfl ?_
      refine gf_iload_n hG dX4_stops_63 rfl rfl ?_
      refine gf_bipush hG (nI 52) dX4_stops_64 (by decide) ?_
      refine gf_iload_n hG dX4_stops_66 rfl rfl ?_
      refine gf_iadd hG dX4_stops_67 ?_
      refine tf_callV (f := fX4_at v1 ((nI 52) + v3) t) (As := [.int v1, .int ((nI 52) + v3)]) (rest := [.ref (Z.2.2.2 18)]) (n := 2) (d' := 1) (st1 := fun r17 => [.int r17, .ref (Z.2.2.2 18)]) hC hnL (wX4_at (gLn X) Z hC.2.2.1 v1 ((nI 52) + v3) t) dX4_stops_68 (lw_V q1376 q1378 qs33 q78 q1379) (by decide +kernel) rfl (by omega) (by decide) (Nat.le_of_ble_eq_true rfl) (fun _ => rfl) (fun r17 t18 => ?_)
      refine gf_iconst hG (-1 : Int32) dX4_stops_71 (by decide) ?_
      refine gf_sipush hG (nI 1000) dX4_stops_72 (by decide) ?_
      refine gf_iload_n hG dX4_stops_75 rfl rfl ?_
      refine gf_iadd hG dX4_stops_76 ?_
      refine tf_callV (f := fX4_sends r17 (-1 : Int32) ((nI 1000) + v1) t18) (As := [.int r17, .int (-1 : Int32), .int ((nI 1000) + v1)]) (rest := []) (n := 3) (d' := 3) (st1 := fun r19 => [.int r19]) hC hnL (wX4_sends (gLn X) Z hC.2.2.1 r17 (-1 : Int32) ((nI 1000) + v1) t18) dX4_stops_77 (lw_V q1391 q1393 qs35 q78 q1394) (by decide +kernel) rfl (by omega) (by decide) (Nat.le_of_ble_eq_true rfl) (fun _ => rfl) (fun r19 t20 => ?_)
      refine gf_pop hG dX4_stops_80 rfl ?_
      refine gf_letiinc hG (c := (nI 1)) (lv' := fun y21 => [(0, .ref (Z.2.2.2 18)), (1, .int v1), (2, .int v2), (3, .int y21)]) dX4_stops_81 rfl (by decide) (Nat.le_of_ble_eq_true rfl) (fun _ => rfl) (fun y21 => ?_)
      refine gf_goto hG (tgt := 56) dX4_stops_84 (by decide) ?_
      exact ih y21 t20
    · refine gf_sub [] rfl ?_
      exact hkx t
def fX4_stops : Nat → Int32 → tSt → Option (Unit × tSt)
  | 0, _, _ => none
  | n + 1, v1, t =>
    ob (fX4_stopsChildren (fX4_stops n) v1 t) (fun r1 t2 =>
    ob (fX4_sets v1 (nI 5) (nI 0) t2) (fun r3 t4 =>
    ob (fX4_sets v1 (nI 13) (nI 0) t4) (fun r5 t6 =>
    ob (fX4_sets v1 (nI 38) (nI 0) t6) (fun r7 t8 =>
    ob (fX4_forgets v1 t8) (fun r9 t10 =>
    ob (fX4_unwatches v1 t10) (fun r11 t12 =>
    ob (fX4_at v1 (nI 51) t12) (fun r13 t14 =>
    ob (fX4_sets v1 (nI 51) (nI 0) t14) (fun r15 t16 =>
    fX4_stops_L56 v1 r13 (fun  (t22 : tSt) =>
      some ((), t22)
      ) FU (nI 0) t16
    )
    )
    )
    )
    )
    )
    )
    )
set_option maxHeartbeats 4000000 in
theorem wX4_stops : ∀ (n : Nat) (l : Launch) (Z : tZ) (hj : tInj Z) (v1 : Int32) (t : tSt) (r : Unit) (t' : tSt), fX4_stops n v1 t = some (r, t') → tCt l Z yX4_stops cX4_stops 4 none (12 + 2 * n) [.ref (Z.2.2.2 18), .int v1] t none t' := by
  intro n
  induction n with
  | zero => intro l Z hj v1 t r t' h; cases h
  | succ n ih =>
    intro l Z hj v1 t
    refine tmet (ρ := (fun _ : Unit => (none : Option Value))) (av := [.ref (Z.2.2.2 18), .int v1]) hj (by decide +kernel) (Nat.le_of_ble_eq_true rfl) (lv_args_cat (List.forall_mem_cons.mpr ⟨rfl, List.forall_mem_cons.mpr ⟨rfl, fun _ h => absurd h List.not_mem_nil⟩⟩)) ?_
    intro X hln hC hnL hrt
    subst hln
    have hG := hC.1
    show GF X (tM Z X 4 (fun _ : Unit => (none : Option Value))) _ t 0 [(0, .ref (Z.2.2.2 18)), (1, .int v1)] []
    have ihn := ih (gLn X) Z hj
    rw [fX4_stops]
    refine gf_aload_n hG dX4_stops_0 rfl rfl ?_
    refine gf_iload_n hG dX4_stops_1 rfl rfl ?_
    refine tf_callV (f := fX4_stopsChildren (fX4_stops n) v1 t) (As := [.int v1]) (rest := []) (n := 1) (d' := ((12 + 2 * n) + 1)) (st1 := fun _ => []) hC hnL (wX4_stopsChildren (gLn X) Z hC.2.2.1 (fX4_stops n) (12 + 2 * n) (by omega) ihn v1 t) dX4_stops_2 (lw_V q1459 q1461 qs43 q78 q1462) (by decide +kernel) rfl (by omega) (by decide) (Nat.le_of_ble_eq_true rfl) (fun _ => rfl) (fun r1 t2 => ?_)
    refine gf_aload_n hG dX4_stops_5 rfl rfl ?_
    refine gf_iload_n hG dX4_stops_6 rfl rfl ?_
    refine gf_iconst hG (nI 5) dX4_stops_7 (by decide) ?_
    refine gf_iconst hG (nI 0) dX4_stops_8 (by decide) ?_
    refine tf_callV (f := fX4_sets v1 (nI 5) (nI 0) t2) (As := [.int v1, .int (nI 5), .int (nI 0)]) (rest := []) (n := 3) (d' := 1) (st1 := fun _ => []) hC hnL (wX4_sets (gLn X) Z hC.2.2.1 v1 (nI 5) (nI 0) t2) dX4_stops_9 (lw_V q1380 q1382 qs34 q78 q1383) (by decide +kernel) rfl (by omega) (by decide) (Nat.le_of_ble_eq_true rfl) (fun _ => rfl) (fun r3 t4 => ?_)
    refine gf_aload_n hG dX4_stops_12 rfl rfl ?_
    refine gf_iload_n hG dX4_stops_13 rfl rfl ?_
    refine gf_bipush hG (nI 13) dX4_stops_14 (by decide) ?_
    refine gf_iconst hG (nI 0) dX4_stops_16 (by decide) ?_
    refine tf_callV (f := fX4_sets v1 (nI 13) (nI 0) t4) (As := [.int v1, .int (nI 13), .int (nI 0)]) (rest := []) (n := 3) (d' := 1) (st1 := fun _ => []) hC hnL (wX4_sets (gLn X) Z hC.2.2.1 v1 (nI 13) (nI 0) t4) dX4_stops_17 (lw_V q1380 q1382 qs34 q78 q1383) (by decide +kernel) rfl (by omega) (by decide) (Nat.le_of_ble_eq_true rfl) (fun _ => rfl) (fun r5 t6 => ?_)
    refine gf_aload_n hG dX4_stops_20 rfl rfl ?_
    refine gf_iload_n hG dX4_stops_21 rfl rfl ?_
    refine gf_bipush hG (nI 38) dX4_stops_22 (by decide) ?_
    refine gf_iconst hG (nI 0) dX4_stops_24 (by decide) ?_
    refine tf_callV (f := fX4_sets v1 (nI 38) (nI 0) t6) (As := [.int v1, .int (nI 38), .int (nI 0)]) (rest := []) (n := 3) (d' := 1) (st1 := fun _ => []) hC hnL (wX4_sets (gLn X) Z hC.2.2.1 v1 (nI 38) (nI 0) t6) dX4_stops_25 (lw_V q1380 q1382 qs34 q78 q1383) (by decide +kernel) rfl (by omega) (by decide) (Nat.le_of_ble_eq_true rfl) (fun _ => rfl) (fun r7 t8 => ?_)
    refine gf_aload_n hG dX4_stops_28 rfl rfl ?_
    refine gf_iload_n hG dX4_stops_29 rfl rfl ?_
    refine tf_callV (f := fX4_forgets v1 t8) (As := [.int v1]) (rest := []) (n := 1) (d' := 2) (st1 := fun _ => []) hC hnL (wX4_forgets (gLn X) Z hC.2.2.1 v1 t8) dX4_stops_30 (lw_V q1467 q1469 qs45 q78 q1470) (by decide +kernel) rfl (by omega) (by decide) (Nat.le_of_ble_eq_true rfl) (fun _ => rfl) (fun r9 t10 => ?_)
    refine gf_aload_n hG dX4_stops_33 rfl rfl ?_
    refine gf_iload_n hG dX4_stops_34 rfl rfl ?_
    refine tf_callV (f := fX4_unwatches v1 t10) (As := [.int v1]) (rest := []) (n := 1) (d' := 2) (st1 := fun _ => []) hC hnL (wX4_unwatches (gLn X) Z hC.2.2.1 v1 t10) dX4_stops_35 (lw_V q1471 q1473 qs46 q78 q1474) (by decide +kernel) rfl (by omega) (by decide) (Nat.le_of_ble_eq_true rfl) (fun _ => rfl) (fun r11 t12 => ?_)
    refine gf_aload_n hG dX4_stops_38 rfl rfl ?_
    refine gf_iload_n hG dX4_stops_39 rfl rfl ?_
    refine gf_bipush hG (nI 51) dX4_stops_40 (by decide) ?_
    refine tf_callV (f := fX4_at v1 (nI 51) t12) (As := [.int v1, .int (nI 51)]) (rest := []) (n := 2) (d' := 1) (st1 := fun r13 => [.int r13]) hC hnL (wX4_at (gLn X) Z hC.2.2.1 v1 (nI 51) t12) dX4_stops_42 (lw_V q1376 q1378 qs33 q78 q1379) (by decide +kernel) rfl (by omega) (by decide) (Nat.le_of_ble_eq_true rfl) (fun _ => rfl) (fun r13 t14 => ?_)
    refine gf_istore_n hG dX4_stops_45 rfl (Nat.le_of_ble_eq_true rfl) (lv' := [(0, _), (1, _), (2, _)]) rfl ?_
    refine gf_aload_n hG dX4_stops_46 rfl rfl ?_
    refine gf_iload_n hG dX4_stops_47 rfl rfl ?_
    refine gf_bipush hG (nI 51) dX4_stops_48 (by decide) ?_
    refine gf_iconst hG (nI 0) dX4_stops_50 (by decide) ?_
    refine tf_callV (f := fX4_sets v1 (nI 51) (nI 0) t14) (As := [.int v1, .int (nI 51), .int (nI 0)]) (rest := []) (n := 3) (d' := 1) (st1 := fun _ => []) hC hnL (wX4_sets (gLn X) Z hC.2.2.1 v1 (nI 51) (nI 0) t14) dX4_stops_51 (lw_V q1380 q1382 qs34 q78 q1383) (by decide +kernel) rfl (by omega) (by decide) (Nat.le_of_ble_eq_true rfl) (fun _ => rfl) (fun r15 t16 => ?_)
    refine gf_iconst hG (nI 0) dX4_stops_54 (by decide) ?_
    refine gf_istore_n hG dX4_stops_55 rfl (Nat.le_of_ble_eq_true rfl) (lv' := [(0, _), (1, _), (2, _), (3, _)]) rfl ?_
    refine gfX4_stops_L56 hC hnL hrt v1 r13 _ (fun t22 => ?_) FU (nI 0) t16
    exact tf_vret hC hrt rfl dX4_stops_87
def fX4_stop (v1 : Int32) (t : tSt) : Option (Int32 × tSt) :=
  ob (fX4_isActor v1 t) (fun r1 t2 =>
  if r1 = 0 then
    some ((-1 : Int32), t2)
  else
    ob (fX4_isLive v1 t2) (fun r3 t4 =>
    if r3 = 0 then
      some ((-5 : Int32), t4)
    else
      ob (fX4_liveOnes t4) (fun r5 t6 =>
      ob (fX4_bits r5 t6) (fun r7 t8 =>
      ob (fX4_stops 13 v1 t8) (fun r9 t10 =>
      ob (fX4_liveOnes t10) (fun r11 t12 =>
      ob (fX4_bits r11 t12) (fun r13 t14 =>
      some ((r7 - r13), t14)
      )
      )
      )
      )
      )
    )
  )
set_option maxHeartbeats 4000000 in
theorem wX4_stop (l : Launch) (Z : tZ) (hj : tInj Z) (v1 : Int32) (t : tSt)  : ∀ (r : Int32) (t' : tSt), fX4_stop v1 t = some (r, t') → tCt l Z yX4_stop cX4_stop 3 (some .int) 39 [.ref (Z.2.2.2 18), .int v1] t (some (.int r)) t' := by
  refine tmet (ρ := (fun x : Int32 => some (Value.int x))) (av := [.ref (Z.2.2.2 18), .int v1]) hj (by decide +kernel) (Nat.le_of_ble_eq_true rfl) (lv_args_cat (List.forall_mem_cons.mpr ⟨rfl, List.forall_mem_cons.mpr ⟨rfl, fun _ h => absurd h List.not_mem_nil⟩⟩)) ?_
  intro X hln hC hnL hrt
  subst hln
  have hG := hC.1
  show GF X (tM Z X 3 (fun x : Int32 => some (Value.int x))) _ t 0 [(0, .ref (Z.2.2.2 18)), (1, .int v1)] []
  unfold fX4_stop
  refine gf_aload_n hG dX4_stop_0 rfl rfl ?_
  refine gf_iload_n hG dX4_stop_1 rfl rfl ?_
  refine tf_callV (f := fX4_isActor v1 t) (As := [.int v1]) (rest := []) (n := 1) (d' := 2) (st1 := fun r1 => [.int r1]) hC hnL (wX4_isActor (gLn X) Z hC.2.2.1 v1 t) dX4_stop_2 (lw_V q1362 q1364 qs31 q78 q1365) (by decide +kernel) rfl (by decide) (by decide) (Nat.le_of_ble_eq_true rfl) (fun _ => rfl) (fun r1 t2 => ?_)
  refine gf_if_ne hG (tgt := 10) dX4_stop_5 (by decide) ?_ ?_
  · refine gf_iconst hG (-1 : Int32) dX4_stop_8 (by decide) ?_
    exact tf_ret hC hrt rfl rfl dX4_stop_9
  · refine gf_aload_n hG dX4_stop_10 rfl rfl ?_
    refine gf_iload_n hG dX4_stop_11 rfl rfl ?_
    refine tf_callV (f := fX4_isLive v1 t2) (As := [.int v1]) (rest := []) (n := 1) (d' := 2) (st1 := fun r3 => [.int r3]) hC hnL (wX4_isLive (gLn X) Z hC.2.2.1 v1 t2) dX4_stop_12 (lw_V q1372 q1374 qs32 q78 q1375) (by decide +kernel) rfl (by decide) (by decide) (Nat.le_of_ble_eq_true rfl) (fun _ => rfl) (fun r3 t4 => ?_)
    refine gf_if_ne hG (tgt := 21) dX4_stop_15 (by decide) ?_ ?_
    · refine gf_bipush hG (-5 : Int32) dX4_stop_18 (by decide) ?_
      exact tf_ret hC hrt rfl rfl dX4_stop_20
    · refine gf_aload_n hG dX4_stop_21 rfl rfl ?_
      refine tf_callV (f := fX4_liveOnes t4) (As := []) (rest := []) (n := 0) (d' := 3) (st1 := fun r5 => [.int r5]) hC hnL (wX4_liveOnes (gLn X) Z hC.2.2.1 t4) dX4_stop_22 (lw_V q1448 q1450 qs41 q78 q1451) (by decide +kernel) rfl (by decide) (by decide) (Nat.le_of_ble_eq_true rfl) (fun _ => rfl) (fun r5 t6 => ?_)
      refine tf_callS (f := fX4_bits r5 t6) (As := [.int r5]) (rest := []) (n := 1) (d' := 1) (st1 := fun r7 => [.int r7]) hC hnL (wX4_bits (gLn X) Z hC.2.2.1 r5 t6) dX4_stop_25 (lw_S q1452 q1453 q78 q1454) (by decide +kernel) rfl (by decide) (by decide) (Nat.le_of_ble_eq_true rfl) (fun _ => rfl) (fun r7 t8 => ?_)
      refine gf_istore_n hG dX4_stop_28 rfl (Nat.le_of_ble_eq_true rfl) (lv' := [(0, _), (1, _), (2, _)]) rfl ?_
      refine gf_aload_n hG dX4_stop_29 rfl rfl ?_
      refine gf_iload_n hG dX4_stop_30 rfl rfl ?_
      refine tf_callV (f := fX4_stops 13 v1 t8) (As := [.int v1]) (rest := []) (n := 1) (d' := 38) (st1 := fun _ => []) hC hnL (wX4_stops 13 (gLn X) Z hC.2.2.1 v1 t8) dX4_stop_31 (lw_V q1455 q1457 qs42 q78 q1458) (by decide +kernel) rfl (by decide) (by decide) (Nat.le_of_ble_eq_true rfl) (fun _ => rfl) (fun r9 t10 => ?_)
      refine gf_iload_n hG dX4_stop_34 rfl rfl ?_
      refine gf_aload_n hG dX4_stop_35 rfl rfl ?_
      refine tf_callV (f := fX4_liveOnes t10) (As := []) (rest := [.int r7]) (n := 0) (d' := 3) (st1 := fun r11 => [.int r11, .int r7]) hC hnL (wX4_liveOnes (gLn X) Z hC.2.2.1 t10) dX4_stop_36 (lw_V q1448 q1450 qs41 q78 q1451) (by decide +kernel) rfl (by decide) (by decide) (Nat.le_of_ble_eq_true rfl) (fun _ => rfl) (fun r11 t12 => ?_)
      refine tf_callS (f := fX4_bits r11 t12) (As := [.int r11]) (rest := [.int r7]) (n := 1) (d' := 1) (st1 := fun r13 => [.int r13, .int r7]) hC hnL (wX4_bits (gLn X) Z hC.2.2.1 r11 t12) dX4_stop_39 (lw_S q1452 q1453 q78 q1454) (by decide +kernel) rfl (by decide) (by decide) (Nat.le_of_ble_eq_true rfl) (fun _ => rfl) (fun r13 t14 => ?_)
      refine gf_isub hG dX4_stop_42 ?_
      exact tf_ret hC hrt rfl rfl dX4_stop_43
def fX4_nextActor_L2  (kx : tSt → Option (Int32 × tSt)) : Nat → Int32 → tSt → Option (Int32 × tSt)
  | 0, _, _ => none
  | k + 1, v1, t =>
    if (nI 12) < v1 then
      kx t
    else
      rv (trd t 0 (nI 928)) (fun x1 =>
      letv ((irm ((x1 + v1) + (nI 12)) (nI 12))) (fun y2 =>
      rv (trd t 0 (nI 924)) (fun x3 =>
      jn (fun  (t4 : tSt) =>
        letv (v1 + (nI 1)) (fun y6 =>
        fX4_nextActor_L2 kx k y6 t4
        )
        ) (fun (j5 : tSt → Option (Int32 × tSt)) =>
        if y2 < x3 then
          ob (fX4_isLive y2 t) (fun r7 t8 =>
          if r7 = 0 then
            j5 t8
          else
            ob (fX4_at y2 (nI 13) t8) (fun r9 t10 =>
            if 0 < r9 then
              some (y2, t10)
            else
              j5 t10
            )
          )
        else
          j5 t
        )
      )
      )
      )
set_option maxHeartbeats 4000000 in
theorem gfX4_nextActor_L2 {X : gCx} {Z : tZ} (hC : tOk X Z RX4 cX4_nextActor 3) (hnL : gLoc X = 3) (hrt : gRet X = (some .int))   (kx : tSt → Option (Int32 × tSt)) (hkx : ∀  (t : tSt), GF X (tM Z X 3 (fun x : Int32 => some (Value.int x))) (kx t) t 63 [] []) : ∀ (k : Nat) (v1 : Int32) (t : tSt), GF X (tM Z X 3 (fun x : Int32 => some (Value.int x))) (fX4_nextActor_L2 kx k v1 t) t 2 [(0, .ref (Z.2.2.2 18)), (1, .int v1)] [] := by
  have hG := hC.1
  intro k
  induction k with
  | zero => intro v1 t; exact gf_none
  | succ k ih =>
    intro v1 t
    rw [fX4_nextActor_L2]
    refine gf_iload_n hG dX4_nextActor_2 rfl rfl ?_
    refine gf_bipush hG (nI 12) dX4_nextActor_3 (by decide) ?_
    refine gf_icmp_gt hG (tgt := 63) dX4_nextActor_5 (by decide) ?_ ?_
    · refine gf_sub [] rfl ?_
      exact hkx t
    · refine gf_aload_n hG dX4_nextActor_8 rfl rfl ?_
      refine tf_get hC 0 dX4_nextActor_9 (by decide) q1287 rfl ?_
      refine gf_sipush hG (nI 928) dX4_nextActor_12 (by decide) ?_
      refine tf_iald hC dX4_nextActor_15 (by decide) (fun x1 => ?_)
      refine gf_iload_n hG dX4_nextActor_16 rfl rfl ?_
      refine gf_iadd hG dX4_nextActor_17 ?_
      refine gf_bipush hG (nI 12) dX4_nextActor_18 (by decide) ?_
      refine gf_iadd hG dX4_nextActor_20 ?_
      refine gf_bipush hG (nI 12) dX4_nextActor_21 (by decide) ?_
      refine gf_irem hG dX4_nextActor_23 (by decide) ?_
      refine gf_letv (fun y2 hy2 => ?_)
      refine gf_istore_n hG dX4_nextActor_24 rfl (Nat.le_of_ble_eq_true rfl) (lv' := [(0, _), (1, _), (2, _)]) rfl ?_
      refine gf_iload_n hG dX4_nextActor_25 rfl rfl ?_
      refine gf_aload_n hG dX4_nextActor_26 rfl rfl ?_
      refine tf_get hC 0 dX4_nextActor_27 (by decide) q1287 rfl ?_
      refine gf_sipush hG (nI 924) dX4_nextActor_30 (by decide) ?_
      refine tf_iald hC dX4_nextActor_33 (by decide) (fun x3 => ?_)
      refine gf_jn (fun j_ => ∀  (t4 : tSt), GF X (tM Z X 3 (fun x : Int32 => some (Value.int x))) (j_ t4) t4 57 [(0, .ref (Z.2.2.2 18)), (1, .int v1)] []) (fun t4 => ?_) (fun j5 hj5 => ?_)
      · refine gf_letiinc hG (c := (nI 1)) (lv' := fun y6 => [(0, .ref (Z.2.2.2 18)), (1, .int y6)]) dX4_nextActor_57 rfl (by decide) (Nat.le_of_ble_eq_true rfl) (fun _ => rfl) (fun y6 => ?_)
        refine gf_goto hG (tgt := 2) dX4_nextActor_60 (by decide) ?_
        exact ih y6 t4
      · refine gf_icmp_ge hG (tgt := 57) dX4_nextActor_34 (by decide) ?_ ?_
        · refine gf_aload_n hG dX4_nextActor_37 rfl rfl ?_
          refine gf_iload_n hG dX4_nextActor_38 rfl rfl ?_
          refine tf_callV (f := fX4_isLive y2 t) (As := [.int y2]) (rest := []) (n := 1) (d' := 2) (st1 := fun r7 => [.int r7]) hC hnL (wX4_isLive (gLn X) Z hC.2.2.1 y2 t) dX4_nextActor_39 (lw_V q1372 q1374 qs32 q78 q1375) (by decide +kernel) rfl (by decide) (by decide) (Nat.le_of_ble_eq_true rfl) (fun _ => rfl) (fun r7 t8 => ?_)
          refine gf_if_eq hG (tgt := 57) dX4_nextActor_42 (by decide) ?_ ?_
          · refine gf_sub [0, 1] rfl ?_
            exact hj5 t8
          · refine gf_aload_n hG dX4_nextActor_45 rfl rfl ?_
            refine gf_iload_n hG dX4_nextActor_46 rfl rfl ?_
            refine gf_bipush hG (nI 13) dX4_nextActor_47 (by decide) ?_
            refine tf_callV (f := fX4_at y2 (nI 13) t8) (As := [.int y2, .int (nI 13)]) (rest := []) (n := 2) (d' := 1) (st1 := fun r9 => [.int r9]) hC hnL (wX4_at (gLn X) Z hC.2.2.1 y2 (nI 13) t8) dX4_nextActor_49 (lw_V q1376 q1378 qs33 q78 q1379) (by decide +kernel) rfl (by decide) (by decide) (Nat.le_of_ble_eq_true rfl) (fun _ => rfl) (fun r9 t10 => ?_)
            refine gf_if_le hG (tgt := 57) dX4_nextActor_52 (by decide) ?_ ?_
            · refine gf_iload_n hG dX4_nextActor_55 rfl rfl ?_
              exact tf_ret hC hrt rfl rfl dX4_nextActor_56
            · refine gf_sub [0, 1] rfl ?_
              exact hj5 t10
        · refine gf_sub [0, 1] rfl ?_
          exact hj5 t
def fX4_nextActor  (t : tSt) : Option (Int32 × tSt) :=
  fX4_nextActor_L2 (fun  (t11 : tSt) =>
    some ((-2 : Int32), t11)
    ) FU (nI 1) t
set_option maxHeartbeats 4000000 in
theorem wX4_nextActor (l : Launch) (Z : tZ) (hj : tInj Z)  (t : tSt)  : ∀ (r : Int32) (t' : tSt), fX4_nextActor t = some (r, t') → tCt l Z yX4_nextActor cX4_nextActor 3 (some .int) 3 [.ref (Z.2.2.2 18)] t (some (.int r)) t' := by
  refine tmet (ρ := (fun x : Int32 => some (Value.int x))) (av := [.ref (Z.2.2.2 18)]) hj (by decide +kernel) (Nat.le_of_ble_eq_true rfl) (lv_args_cat (List.forall_mem_cons.mpr ⟨rfl, fun _ h => absurd h List.not_mem_nil⟩)) ?_
  intro X hln hC hnL hrt
  subst hln
  have hG := hC.1
  show GF X (tM Z X 3 (fun x : Int32 => some (Value.int x))) _ t 0 [(0, .ref (Z.2.2.2 18))] []
  unfold fX4_nextActor
  refine gf_iconst hG (nI 1) dX4_nextActor_0 (by decide) ?_
  refine gf_istore_n hG dX4_nextActor_1 rfl (Nat.le_of_ble_eq_true rfl) (lv' := [(0, _), (1, _)]) rfl ?_
  refine gfX4_nextActor_L2 hC hnL hrt  _ (fun t11 => ?_) FU (nI 1) t
  refine gf_bipush hG (-2 : Int32) dX4_nextActor_63 (by decide) ?_
  exact tf_ret hC hrt rfl rfl dX4_nextActor_65
def fX4_hasStep  (t : tSt) : Option (Int32 × tSt) :=
  ob (fX4_nextActor t) (fun r1 t2 =>
  jn (fun  (t3 : tSt) =>
    some ((nI 1), t3)
    ) (fun (j4 : tSt → Option (Int32 × tSt)) =>
    if r1 < 0 then
      rv (trd t2 0 (nI 931)) (fun x5 =>
      if 0 < x5 then
        j4 t2
      else
        some ((nI 0), t2)
      )
    else
      j4 t2
    )
  )
set_option maxHeartbeats 4000000 in
theorem wX4_hasStep (l : Launch) (Z : tZ) (hj : tInj Z)  (t : tSt)  : ∀ (r : Int32) (t' : tSt), fX4_hasStep t = some (r, t') → tCt l Z yX4_hasStep cX4_hasStep 1 (some .boolean) 4 [.ref (Z.2.2.2 18)] t (some (.int r)) t' := by
  refine tmet (ρ := (fun x : Int32 => some (Value.int x))) (av := [.ref (Z.2.2.2 18)]) hj (by decide +kernel) (Nat.le_of_ble_eq_true rfl) (lv_args_cat (List.forall_mem_cons.mpr ⟨rfl, fun _ h => absurd h List.not_mem_nil⟩)) ?_
  intro X hln hC hnL hrt
  subst hln
  have hG := hC.1
  show GF X (tM Z X 1 (fun x : Int32 => some (Value.int x))) _ t 0 [(0, .ref (Z.2.2.2 18))] []
  unfold fX4_hasStep
  refine gf_aload_n hG dX4_hasStep_0 rfl rfl ?_
  refine tf_callV (f := fX4_nextActor t) (As := []) (rest := []) (n := 0) (d' := 3) (st1 := fun r1 => [.int r1]) hC hnL (wX4_nextActor (gLn X) Z hC.2.2.1 t) dX4_hasStep_1 (lw_V q1491 q1493 qs50 q78 q1494) (by decide +kernel) rfl (by decide) (by decide) (Nat.le_of_ble_eq_true rfl) (fun _ => rfl) (fun r1 t2 => ?_)
  refine gf_jn (fun j_ => ∀  (t3 : tSt), GF X (tM Z X 1 (fun x : Int32 => some (Value.int x))) (j_ t3) t3 18 [] []) (fun t3 => ?_) (fun j4 hj4 => ?_)
  · refine gf_iconst hG (nI 1) dX4_hasStep_18 (by decide) ?_
    refine gf_goto hG (tgt := 23) dX4_hasStep_19 (by decide) ?_
    exact tf_ret hC hrt (by decide) rfl dX4_hasStep_23
  · refine gf_if_ge hG (tgt := 18) dX4_hasStep_4 (by decide) ?_ ?_
    · refine gf_aload_n hG dX4_hasStep_7 rfl rfl ?_
      refine tf_get hC 0 dX4_hasStep_8 (by decide) q1287 rfl ?_
      refine gf_sipush hG (nI 931) dX4_hasStep_11 (by decide) ?_
      refine tf_iald hC dX4_hasStep_14 (by decide) (fun x5 => ?_)
      refine gf_if_le hG (tgt := 22) dX4_hasStep_15 (by decide) ?_ ?_
      · refine gf_sub [] rfl ?_
        exact hj4 t2
      · refine gf_iconst hG (nI 0) dX4_hasStep_22 (by decide) ?_
        exact tf_ret hC hrt (by decide) rfl dX4_hasStep_23
    · refine gf_sub [] rfl ?_
      exact hj4 t2
def fX4_isEnd (v1 : Int32) (v2 : Int32) (t : tSt) : Option (Int32 × tSt) :=
  rv (trd t 0 (nI 924)) (fun x1 =>
  jn (fun (x2 : Int32) (t3 : tSt) =>
    letv (tup t3 18 18 x2) (fun t5 =>
    jn (fun  (t6 : tSt) =>
      some ((nI 1), t6)
      ) (fun (j7 : tSt → Option (Int32 × tSt)) =>
      if 0 < (t5 18 18) then
        j7 t5
      else
        if v1 = v2 then
          j7 t5
        else
          some ((nI 0), t5)
      )
    )
    ) (fun (j4 : Int32 → tSt → Option (Int32 × tSt)) =>
    jn (fun  (t8 : tSt) =>
      ob (fX4_hasStep t8) (fun r10 t11 =>
      if r10 = 0 then
        j4 (nI 1) t11
      else
        j4 (nI 0) t11
      )
      ) (fun (j9 : tSt → Option (Int32 × tSt)) =>
      if 0 < x1 then
        ob (fX4_isLive (nI 0) t) (fun r12 t13 =>
        if r12 = 0 then
          j4 (nI 2) t13
        else
          j9 t13
        )
      else
        j9 t
      )
    )
  )
set_option maxHeartbeats 4000000 in
theorem wX4_isEnd (l : Launch) (Z : tZ) (hj : tInj Z) (v1 : Int32) (v2 : Int32) (t : tSt)  : ∀ (r : Int32) (t' : tSt), fX4_isEnd v1 v2 t = some (r, t') → tCt l Z yX4_isEnd cX4_isEnd 3 (some .boolean) 5 [.ref (Z.2.2.2 18), .int v1, .int v2] t (some (.int r)) t' := by
  refine tmet (ρ := (fun x : Int32 => some (Value.int x))) (av := [.ref (Z.2.2.2 18), .int v1, .int v2]) hj (by decide +kernel) (Nat.le_of_ble_eq_true rfl) (lv_args_cat (List.forall_mem_cons.mpr ⟨rfl, List.forall_mem_cons.mpr ⟨rfl, List.forall_mem_cons.mpr ⟨rfl, fun _ h => absurd h List.not_mem_nil⟩⟩⟩)) ?_
  intro X hln hC hnL hrt
  subst hln
  have hG := hC.1
  show GF X (tM Z X 3 (fun x : Int32 => some (Value.int x))) _ t 0 [(0, .ref (Z.2.2.2 18)), (1, .int v1), (2, .int v2)] []
  unfold fX4_isEnd
  refine gf_aload_n hG dX4_isEnd_0 rfl rfl ?_
  refine gf_aload_n hG dX4_isEnd_1 rfl rfl ?_
  refine tf_get hC 0 dX4_isEnd_2 (by decide) q1287 rfl ?_
  refine gf_sipush hG (nI 924) dX4_isEnd_5 (by decide) ?_
  refine tf_iald hC dX4_isEnd_8 (by decide) (fun x1 => ?_)
  refine gf_jn (fun j_ => ∀ (x2 : Int32) (t3 : tSt), GF X (tM Z X 3 (fun x : Int32 => some (Value.int x))) (j_ x2 t3) t3 36 [(0, .ref (Z.2.2.2 18)), (1, .int v1), (2, .int v2)] [.int x2, .ref (Z.2.2.2 18)]) (fun x2 t3 => ?_) (fun j4 hj4 => ?_)
  · refine tf_put hC 18 dX4_isEnd_36 (by decide) q1305 rfl (by first | rfl | decide) (by first | rfl | decide) (fun _ => rfl) ?_
    refine gf_letS (fun t5 => ?_)
    refine gf_aload_n hG dX4_isEnd_39 rfl rfl ?_
    refine tf_get hC 18 dX4_isEnd_40 (by decide) q1305 rfl ?_
    refine gf_jn (fun j_ => ∀  (t6 : tSt), GF X (tM Z X 3 (fun x : Int32 => some (Value.int x))) (j_ t6) t6 51 [] []) (fun t6 => ?_) (fun j7 hj7 => ?_)
    · refine gf_iconst hG (nI 1) dX4_isEnd_51 (by decide) ?_
      refine gf_goto hG (tgt := 56) dX4_isEnd_52 (by decide) ?_
      exact tf_ret hC hrt (by decide) rfl dX4_isEnd_56
    · refine gf_if_gt hG (tgt := 51) dX4_isEnd_43 (by decide) ?_ ?_
      · refine gf_sub [] rfl ?_
        exact hj7 t5
      · refine gf_iload_n hG dX4_isEnd_46 rfl rfl ?_
        refine gf_iload_n hG dX4_isEnd_47 rfl rfl ?_
        refine gf_icmp_ne hG (tgt := 55) dX4_isEnd_48 (by decide) ?_ ?_
        · refine gf_sub [] rfl ?_
          exact hj7 t5
        · refine gf_iconst hG (nI 0) dX4_isEnd_55 (by decide) ?_
          exact tf_ret hC hrt (by decide) rfl dX4_isEnd_56
  · refine gf_jn (fun j_ => ∀  (t8 : tSt), GF X (tM Z X 3 (fun x : Int32 => some (Value.int x))) (j_ t8) t8 24 [(0, .ref (Z.2.2.2 18)), (1, .int v1), (2, .int v2)] [.ref (Z.2.2.2 18)]) (fun t8 => ?_) (fun j9 hj9 => ?_)
    · refine gf_aload_n hG dX4_isEnd_24 rfl rfl ?_
      refine tf_callV (f := fX4_hasStep t8) (As := []) (rest := [.ref (Z.2.2.2 18)]) (n := 0) (d' := 4) (st1 := fun r10 => [.int r10, .ref (Z.2.2.2 18)]) hC hnL (wX4_hasStep (gLn X) Z hC.2.2.1 t8) dX4_isEnd_25 (lw_V q1487 q1489 qs49 q78 q1490) (by decide +kernel) rfl (by decide) (by decide) (Nat.le_of_ble_eq_true rfl) (fun _ => rfl) (fun r10 t11 => ?_)
      refine gf_if_ne hG (tgt := 35) dX4_isEnd_28 (by decide) ?_ ?_
      · refine gf_iconst hG (nI 1) dX4_isEnd_31 (by decide) ?_
        refine gf_goto hG (tgt := 36) dX4_isEnd_32 (by decide) ?_
        exact hj4 (nI 1) t11
      · refine gf_iconst hG (nI 0) dX4_isEnd_35 (by decide) ?_
        exact hj4 (nI 0) t11
    · refine gf_if_le hG (tgt := 24) dX4_isEnd_9 (by decide) ?_ ?_
      · refine gf_aload_n hG dX4_isEnd_12 rfl rfl ?_
        refine gf_iconst hG (nI 0) dX4_isEnd_13 (by decide) ?_
        refine tf_callV (f := fX4_isLive (nI 0) t) (As := [.int (nI 0)]) (rest := [.ref (Z.2.2.2 18)]) (n := 1) (d' := 2) (st1 := fun r12 => [.int r12, .ref (Z.2.2.2 18)]) hC hnL (wX4_isLive (gLn X) Z hC.2.2.1 (nI 0) t) dX4_isEnd_14 (lw_V q1372 q1374 qs32 q78 q1375) (by decide +kernel) rfl (by decide) (by decide) (Nat.le_of_ble_eq_true rfl) (fun _ => rfl) (fun r12 t13 => ?_)
        refine gf_if_ne hG (tgt := 24) dX4_isEnd_17 (by decide) ?_ ?_
        · refine gf_iconst hG (nI 2) dX4_isEnd_20 (by decide) ?_
          refine gf_goto hG (tgt := 36) dX4_isEnd_21 (by decide) ?_
          exact hj4 (nI 2) t13
        · exact hj9 t13
      · exact hj9 t
def fX4_delays (v1 : Int32) (v2 : Int32) (t : tSt) : Option (Unit × tSt) :=
  if 0 < v2 then
    rv (trd t 0 (nI 931)) (fun x1 =>
    if x1 < (nI 10) then
      rv (trd t 0 (nI 931)) (fun x2 =>
      letv (((nI 932) + ((nI 3) * x2))) (fun y3 =>
      rv (twr t 0 y3 v1) (fun t4 =>
      rv (trd t4 0 (nI 925)) (fun x5 =>
      rv (twr t4 0 (y3 + (nI 1)) ((x5 + (nI 1)) + (irm v2 (nI 8)))) (fun t6 =>
      rv (twr t6 0 (y3 + (nI 2)) (v2 - (nI 1))) (fun t7 =>
      rv (trd t7 0 (nI 931)) (fun x8 =>
      rv (twr t7 0 (nI 931) (x8 + (nI 1))) (fun t9 =>
      some ((), t9)
      )
      )
      )
      )
      )
      )
      )
      )
    else
      some ((), t)
    )
  else
    some ((), t)
set_option maxHeartbeats 4000000 in
theorem wX4_delays (l : Launch) (Z : tZ) (hj : tInj Z) (v1 : Int32) (v2 : Int32) (t : tSt)  : ∀ (r : Unit) (t' : tSt), fX4_delays v1 v2 t = some (r, t') → tCt l Z yX4_delays cX4_delays 4 none 1 [.ref (Z.2.2.2 18), .int v1, .int v2] t none t' := by
  refine tmet (ρ := (fun _ : Unit => (none : Option Value))) (av := [.ref (Z.2.2.2 18), .int v1, .int v2]) hj (by decide +kernel) (Nat.le_of_ble_eq_true rfl) (lv_args_cat (List.forall_mem_cons.mpr ⟨rfl, List.forall_mem_cons.mpr ⟨rfl, List.forall_mem_cons.mpr ⟨rfl, fun _ h => absurd h List.not_mem_nil⟩⟩⟩)) ?_
  intro X hln hC hnL hrt
  subst hln
  have hG := hC.1
  show GF X (tM Z X 4 (fun _ : Unit => (none : Option Value))) _ t 0 [(0, .ref (Z.2.2.2 18)), (1, .int v1), (2, .int v2)] []
  unfold fX4_delays
  refine gf_iload_n hG dX4_delays_0 rfl rfl ?_
  refine gf_if_le hG (tgt := 85) dX4_delays_1 (by decide) ?_ ?_
  · refine gf_aload_n hG dX4_delays_4 rfl rfl ?_
    refine tf_get hC 0 dX4_delays_5 (by decide) q1287 rfl ?_
    refine gf_sipush hG (nI 931) dX4_delays_8 (by decide) ?_
    refine tf_iald hC dX4_delays_11 (by decide) (fun x1 => ?_)
    refine gf_bipush hG (nI 10) dX4_delays_12 (by decide) ?_
    refine gf_icmp_ge hG (tgt := 85) dX4_delays_14 (by decide) ?_ ?_
    · refine gf_sipush hG (nI 932) dX4_delays_17 (by decide) ?_
      refine gf_iconst hG (nI 3) dX4_delays_20 (by decide) ?_
      refine gf_aload_n hG dX4_delays_21 rfl rfl ?_
      refine tf_get hC 0 dX4_delays_22 (by decide) q1287 rfl ?_
      refine gf_sipush hG (nI 931) dX4_delays_25 (by decide) ?_
      refine tf_iald hC dX4_delays_28 (by decide) (fun x2 => ?_)
      refine gf_imul hG dX4_delays_29 ?_
      refine gf_iadd hG dX4_delays_30 ?_
      refine gf_letv (fun y3 hy3 => ?_)
      refine gf_istore_n hG dX4_delays_31 rfl (Nat.le_of_ble_eq_true rfl) (lv' := [(0, _), (1, _), (2, _), (3, _)]) rfl ?_
      refine gf_aload_n hG dX4_delays_32 rfl rfl ?_
      refine tf_get hC 0 dX4_delays_33 (by decide) q1287 rfl ?_
      refine gf_iload_n hG dX4_delays_36 rfl rfl ?_
      refine gf_iload_n hG dX4_delays_37 rfl rfl ?_
      refine tf_iast hC dX4_delays_38 (by decide) (fun t4 => ?_)
      refine gf_aload_n hG dX4_delays_39 rfl rfl ?_
      refine tf_get hC 0 dX4_delays_40 (by decide) q1287 rfl ?_
      refine gf_iload_n hG dX4_delays_43 rfl rfl ?_
      refine gf_iconst hG (nI 1) dX4_delays_44 (by decide) ?_
      refine gf_iadd hG dX4_delays_45 ?_
      refine gf_aload_n hG dX4_delays_46 rfl rfl ?_
      refine tf_get hC 0 dX4_delays_47 (by decide) q1287 rfl ?_
      refine gf_sipush hG (nI 925) dX4_delays_50 (by decide) ?_
      refine tf_iald hC dX4_delays_53 (by decide) (fun x5 => ?_)
      refine gf_iconst hG (nI 1) dX4_delays_54 (by decide) ?_
      refine gf_iadd hG dX4_delays_55 ?_
      refine gf_iload_n hG dX4_delays_56 rfl rfl ?_
      refine gf_bipush hG (nI 8) dX4_delays_57 (by decide) ?_
      refine gf_irem hG dX4_delays_59 (by decide) ?_
      refine gf_iadd hG dX4_delays_60 ?_
      refine tf_iast hC dX4_delays_61 (by decide) (fun t6 => ?_)
      refine gf_aload_n hG dX4_delays_62 rfl rfl ?_
      refine tf_get hC 0 dX4_delays_63 (by decide) q1287 rfl ?_
      refine gf_iload_n hG dX4_delays_66 rfl rfl ?_
      refine gf_iconst hG (nI 2) dX4_delays_67 (by decide) ?_
      refine gf_iadd hG dX4_delays_68 ?_
      refine gf_iload_n hG dX4_delays_69 rfl rfl ?_
      refine gf_iconst hG (nI 1) dX4_delays_70 (by decide) ?_
      refine gf_isub hG dX4_delays_71 ?_
      refine tf_iast hC dX4_delays_72 (by decide) (fun t7 => ?_)
      refine gf_aload_n hG dX4_delays_73 rfl rfl ?_
      refine tf_get hC 0 dX4_delays_74 (by decide) q1287 rfl ?_
      refine gf_sipush hG (nI 931) dX4_delays_77 (by decide) ?_
      refine gf_dup2 hG dX4_delays_80 rfl rfl ?_
      refine tf_iald hC dX4_delays_81 (by decide) (fun x8 => ?_)
      refine gf_iconst hG (nI 1) dX4_delays_82 (by decide) ?_
      refine gf_iadd hG dX4_delays_83 ?_
      refine tf_iast hC dX4_delays_84 (by decide) (fun t9 => ?_)
      exact tf_vret hC hrt rfl dX4_delays_85
    · exact tf_vret hC hrt rfl dX4_delays_85
  · exact tf_vret hC hrt rfl dX4_delays_85
def fX4_isOverBudget (v1 : Int32) (t : tSt) : Option (Int32 × tSt) :=
  ob (fX4_noted v1 (nI 1) t) (fun r1 t2 =>
  rv (trd t2 0 (nI 925)) (fun x3 =>
  ob (fX4_sets v1 ((nI 65) + r1) x3 t2) (fun r4 t5 =>
  ob (fX4_sets v1 (nI 64) (r1 + (nI 1)) t5) (fun r6 t7 =>
  ob (fX4_at v1 (nI 3) t7) (fun r8 t9 =>
  if r8 < (r1 + (nI 1)) then
    some ((nI 1), t9)
  else
    some ((nI 0), t9)
  )
  )
  )
  )
  )
set_option maxHeartbeats 4000000 in
theorem wX4_isOverBudget (l : Launch) (Z : tZ) (hj : tInj Z) (v1 : Int32) (t : tSt)  : ∀ (r : Int32) (t' : tSt), fX4_isOverBudget v1 t = some (r, t') → tCt l Z yX4_isOverBudget cX4_isOverBudget 3 (some .boolean) 3 [.ref (Z.2.2.2 18), .int v1] t (some (.int r)) t' := by
  refine tmet (ρ := (fun x : Int32 => some (Value.int x))) (av := [.ref (Z.2.2.2 18), .int v1]) hj (by decide +kernel) (Nat.le_of_ble_eq_true rfl) (lv_args_cat (List.forall_mem_cons.mpr ⟨rfl, List.forall_mem_cons.mpr ⟨rfl, fun _ h => absurd h List.not_mem_nil⟩⟩)) ?_
  intro X hln hC hnL hrt
  subst hln
  have hG := hC.1
  show GF X (tM Z X 3 (fun x : Int32 => some (Value.int x))) _ t 0 [(0, .ref (Z.2.2.2 18)), (1, .int v1)] []
  unfold fX4_isOverBudget
  refine gf_aload_n hG dX4_isOverBudget_0 rfl rfl ?_
  refine gf_iload_n hG dX4_isOverBudget_1 rfl rfl ?_
  refine gf_iconst hG (nI 1) dX4_isOverBudget_2 (by decide) ?_
  refine tf_callV (f := fX4_noted v1 (nI 1) t) (As := [.int v1, .int (nI 1)]) (rest := []) (n := 2) (d' := 2) (st1 := fun r1 => [.int r1]) hC hnL (wX4_noted (gLn X) Z hC.2.2.1 v1 (nI 1) t) dX4_isOverBudget_3 (lw_V q1407 q1409 qs38 q78 q1410) (by decide +kernel) rfl (by decide) (by decide) (Nat.le_of_ble_eq_true rfl) (fun _ => rfl) (fun r1 t2 => ?_)
  refine gf_istore_n hG dX4_isOverBudget_6 rfl (Nat.le_of_ble_eq_true rfl) (lv' := [(0, _), (1, _), (2, _)]) rfl ?_
  refine gf_aload_n hG dX4_isOverBudget_7 rfl rfl ?_
  refine gf_iload_n hG dX4_isOverBudget_8 rfl rfl ?_
  refine gf_bipush hG (nI 65) dX4_isOverBudget_9 (by decide) ?_
  refine gf_iload_n hG dX4_isOverBudget_11 rfl rfl ?_
  refine gf_iadd hG dX4_isOverBudget_12 ?_
  refine gf_aload_n hG dX4_isOverBudget_13 rfl rfl ?_
  refine tf_get hC 0 dX4_isOverBudget_14 (by decide) q1287 rfl ?_
  refine gf_sipush hG (nI 925) dX4_isOverBudget_17 (by decide) ?_
  refine tf_iald hC dX4_isOverBudget_20 (by decide) (fun x3 => ?_)
  refine tf_callV (f := fX4_sets v1 ((nI 65) + r1) x3 t2) (As := [.int v1, .int ((nI 65) + r1), .int x3]) (rest := []) (n := 3) (d' := 1) (st1 := fun _ => []) hC hnL (wX4_sets (gLn X) Z hC.2.2.1 v1 ((nI 65) + r1) x3 t2) dX4_isOverBudget_21 (lw_V q1380 q1382 qs34 q78 q1383) (by decide +kernel) rfl (by decide) (by decide) (Nat.le_of_ble_eq_true rfl) (fun _ => rfl) (fun r4 t5 => ?_)
  refine gf_aload_n hG dX4_isOverBudget_24 rfl rfl ?_
  refine gf_iload_n hG dX4_isOverBudget_25 rfl rfl ?_
  refine gf_bipush hG (nI 64) dX4_isOverBudget_26 (by decide) ?_
  refine gf_iload_n hG dX4_isOverBudget_28 rfl rfl ?_
  refine gf_iconst hG (nI 1) dX4_isOverBudget_29 (by decide) ?_
  refine gf_iadd hG dX4_isOverBudget_30 ?_
  refine tf_callV (f := fX4_sets v1 (nI 64) (r1 + (nI 1)) t5) (As := [.int v1, .int (nI 64), .int (r1 + (nI 1))]) (rest := []) (n := 3) (d' := 1) (st1 := fun _ => []) hC hnL (wX4_sets (gLn X) Z hC.2.2.1 v1 (nI 64) (r1 + (nI 1)) t5) dX4_isOverBudget_31 (lw_V q1380 q1382 qs34 q78 q1383) (by decide +kernel) rfl (by decide) (by decide) (Nat.le_of_ble_eq_true rfl) (fun _ => rfl) (fun r6 t7 => ?_)
  refine gf_iload_n hG dX4_isOverBudget_34 rfl rfl ?_
  refine gf_iconst hG (nI 1) dX4_isOverBudget_35 (by decide) ?_
  refine gf_iadd hG dX4_isOverBudget_36 ?_
  refine gf_aload_n hG dX4_isOverBudget_37 rfl rfl ?_
  refine gf_iload_n hG dX4_isOverBudget_38 rfl rfl ?_
  refine gf_iconst hG (nI 3) dX4_isOverBudget_39 (by decide) ?_
  refine tf_callV (f := fX4_at v1 (nI 3) t7) (As := [.int v1, .int (nI 3)]) (rest := [.int (r1 + (nI 1))]) (n := 2) (d' := 1) (st1 := fun r8 => [.int r8, .int (r1 + (nI 1))]) hC hnL (wX4_at (gLn X) Z hC.2.2.1 v1 (nI 3) t7) dX4_isOverBudget_40 (lw_V q1376 q1378 qs33 q78 q1379) (by decide +kernel) rfl (by decide) (by decide) (Nat.le_of_ble_eq_true rfl) (fun _ => rfl) (fun r8 t9 => ?_)
  refine gf_icmp_le hG (tgt := 50) dX4_isOverBudget_43 (by decide) ?_ ?_
  · refine gf_iconst hG (nI 1) dX4_isOverBudget_46 (by decide) ?_
    refine gf_goto hG (tgt := 51) dX4_isOverBudget_47 (by decide) ?_
    exact tf_ret hC hrt (by decide) rfl dX4_isOverBudget_51
  · refine gf_iconst hG (nI 0) dX4_isOverBudget_50 (by decide) ?_
    exact tf_ret hC hrt (by decide) rfl dX4_isOverBudget_51
def fX4_comesBack_L41 (v1 : Int32) (v2 : Int32) (v3 : Int32) (v4 : Int32) (kx : tSt → Option (Unit × tSt)) : Nat → Int32 → tSt → Option (Unit × tSt)
  | 0, _, _ => none
  | k + 1, v5, t =>
    if v5 < 0 then
      kx t
    else
      ob (fX4_at v1 ((nI 14) + v5) t) (fun r9 t10 =>
      ob (fX4_sets v1 (((nI 14) + ((nI 2) * v4)) + v5) r9 t10) (fun r11 t12 =>
      letv (v5 + (-1 : Int32)) (fun y13 =>
      fX4_comesBack_L41 v1 v2 v3 v4 kx k y13 t12
      )
      )
      )
set_option maxHeartbeats 4000000 in
theorem gfX4_comesBack_L41 {X : gCx} {Z : tZ} (hC : tOk X Z RX4 cX4_comesBack 2) (hnL : gLoc X = 6) (hrt : gRet X = none) (v1 : Int32) (v2 : Int32) (v3 : Int32) (v4 : Int32)  (kx : tSt → Option (Unit × tSt)) (hkx : ∀  (t : tSt), GF X (tM Z X 6 (fun _ : Unit => (none : Option Value))) (kx t) t 77 [(0, .ref (Z.2.2.2 18)), (1, .int v1), (2, .int v2), (3, .int v3), (4, .int v4)] []) : ∀ (k : Nat) (v5 : Int32) (t : tSt), GF X (tM Z X 6 (fun _ : Unit => (none : Option Value))) (fX4_comesBack_L41 v1 v2 v3 v4 kx k v5 t) t 41 [(0, .ref (Z.2.2.2 18)), (1, .int v1), (2, .int v2), (3, .int v3), (4, .int v4), (5, .int v5)] [] := by
  have hG := hC.1
  intro k
  induction k with
  | zero => intro v5 t; exact gf_none
  | succ k ih =>
    intro v5 t
    rw [fX4_comesBack_L41]
    refine gf_iload hG dX4_comesBack_41 rfl ?_
    refine gf_if_lt hG (tgt := 77) dX4_comesBack_43 (by decide) ?_ ?_
    · refine gf_sub [0, 1, 2, 3, 4] rfl ?_
      exact hkx t
    · refine gf_aload_n hG dX4_comesBack_46 rfl rfl ?_
      refine gf_iload_n hG dX4_comesBack_47 rfl rfl ?_
      refine gf_bipush hG (nI 14) dX4_comesBack_48 (by decide) ?_
      refine gf_iconst hG (nI 2) dX4_comesBack_50 (by decide) ?_
      refine gf_iload hG dX4_comesBack_51 rfl ?_
      refine gf_imul hG dX4_comesBack_53 ?_
      refine gf_iadd hG dX4_comesBack_54 ?_
      refine gf_iload hG dX4_comesBack_55 rfl ?_
      refine gf_iadd hG dX4_comesBack_57 ?_
      refine gf_aload_n hG dX4_comesBack_58 rfl rfl ?_
      refine gf_iload_n hG dX4_comesBack_59 rfl rfl ?_
      refine gf_bipush hG (nI 14) dX4_comesBack_60 (by decide) ?_
      refine gf_iload hG dX4_comesBack_62 rfl ?_
      refine gf_iadd hG dX4_comesBack_64 ?_
      refine tf_callV (f := fX4_at v1 ((nI 14) + v5) t) (As := [.int v1, .int ((nI 14) + v5)]) (rest := [.int (((nI 14) + ((nI 2) * v4)) + v5), .int v1, .ref (Z.2.2.2 18)]) (n := 2) (d' := 1) (st1 := fun r9 => [.int r9, .int (((nI 14) + ((nI 2) * v4)) + v5), .int v1, .ref (Z.2.2.2 18)]) hC hnL (wX4_at (gLn X) Z hC.2.2.1 v1 ((nI 14) + v5) t) dX4_comesBack_65 (lw_V q1376 q1378 qs33 q78 q1379) (by decide +kernel) rfl (by decide) (by decide) (Nat.le_of_ble_eq_true rfl) (fun _ => rfl) (fun r9 t10 => ?_)
      refine tf_callV (f := fX4_sets v1 (((nI 14) + ((nI 2) * v4)) + v5) r9 t10) (As := [.int v1, .int (((nI 14) + ((nI 2) * v4)) + v5), .int r9]) (rest := []) (n := 3) (d' := 1) (st1 := fun _ => []) hC hnL (wX4_sets (gLn X) Z hC.2.2.1 v1 (((nI 14) + ((nI 2) * v4)) + v5) r9 t10) dX4_comesBack_68 (lw_V q1380 q1382 qs34 q78 q1383) (by decide +kernel) rfl (by decide) (by decide) (Nat.le_of_ble_eq_true rfl) (fun _ => rfl) (fun r11 t12 => ?_)
      refine gf_letiinc hG (c := (-1 : Int32)) (lv' := fun y13 => [(0, .ref (Z.2.2.2 18)), (1, .int v1), (2, .int v2), (3, .int v3), (4, .int v4), (5, .int y13)]) dX4_comesBack_71 rfl (by decide) (Nat.le_of_ble_eq_true rfl) (fun _ => rfl) (fun y13 => ?_)
      refine gf_goto hG (tgt := 41) dX4_comesBack_74 (by decide) ?_
      exact ih y13 t12
def fX4_comesBack_L80 (v1 : Int32) (v2 : Int32) (v3 : Int32) (v4 : Int32) (kx : tSt → Option (Unit × tSt)) : Nat → Int32 → tSt → Option (Unit × tSt)
  | 0, _, _ => none
  | k + 1, v5, t =>
    if v5 < ((nI 2) * v4) then
      ob (fX4_at v1 ((nI 39) + v5) t) (fun r15 t16 =>
      ob (fX4_sets v1 ((nI 14) + v5) r15 t16) (fun r17 t18 =>
      letv (v5 + (nI 1)) (fun y19 =>
      fX4_comesBack_L80 v1 v2 v3 v4 kx k y19 t18
      )
      )
      )
    else
      kx t
set_option maxHeartbeats 4000000 in
theorem gfX4_comesBack_L80 {X : gCx} {Z : tZ} (hC : tOk X Z RX4 cX4_comesBack 2) (hnL : gLoc X = 6) (hrt : gRet X = none) (v1 : Int32) (v2 : Int32) (v3 : Int32) (v4 : Int32)  (kx : tSt → Option (Unit × tSt)) (hkx : ∀  (t : tSt), GF X (tM Z X 6 (fun _ : Unit => (none : Option Value))) (kx t) t 115 [(0, .ref (Z.2.2.2 18)), (1, .int v1), (2, .int v2), (3, .int v3), (4, .int v4)] []) : ∀ (k : Nat) (v5 : Int32) (t : tSt), GF X (tM Z X 6 (fun _ : Unit => (none : Option Value))) (fX4_comesBack_L80 v1 v2 v3 v4 kx k v5 t) t 80 [(0, .ref (Z.2.2.2 18)), (1, .int v1), (2, .int v2), (3, .int v3), (4, .int v4), (5, .int v5)] [] := by
  have hG := hC.1
  intro k
  induction k with
  | zero => intro v5 t; exact gf_none
  | succ k ih =>
    intro v5 t
    rw [fX4_comesBack_L80]
    refine gf_iload hG dX4_comesBack_80 rfl ?_
    refine gf_iconst hG (nI 2) dX4_comesBack_82 (by decide) ?_
    refine gf_iload hG dX4_comesBack_83 rfl ?_
    refine gf_imul hG dX4_comesBack_85 ?_
    refine gf_icmp_ge hG (tgt := 115) dX4_comesBack_86 (by decide) ?_ ?_
    · refine gf_aload_n hG dX4_comesBack_89 rfl rfl ?_
      refine gf_iload_n hG dX4_comesBack_90 rfl rfl ?_
      refine gf_bipush hG (nI 14) dX4_comesBack_91 (by decide) ?_
      refine gf_iload hG dX4_comesBack_93 rfl ?_
      refine gf_iadd hG dX4_comesBack_95 ?_
      refine gf_aload_n hG dX4_comesBack_96 rfl rfl ?_
      refine gf_iload_n hG dX4_comesBack_97 rfl rfl ?_
      refine gf_bipush hG (nI 39) dX4_comesBack_98 (by decide) ?_
      refine gf_iload hG dX4_comesBack_100 rfl ?_
      refine gf_iadd hG dX4_comesBack_102 ?_
      refine tf_callV (f := fX4_at v1 ((nI 39) + v5) t) (As := [.int v1, .int ((nI 39) + v5)]) (rest := [.int ((nI 14) + v5), .int v1, .ref (Z.2.2.2 18)]) (n := 2) (d' := 1) (st1 := fun r15 => [.int r15, .int ((nI 14) + v5), .int v1, .ref (Z.2.2.2 18)]) hC hnL (wX4_at (gLn X) Z hC.2.2.1 v1 ((nI 39) + v5) t) dX4_comesBack_103 (lw_V q1376 q1378 qs33 q78 q1379) (by decide +kernel) rfl (by decide) (by decide) (Nat.le_of_ble_eq_true rfl) (fun _ => rfl) (fun r15 t16 => ?_)
      refine tf_callV (f := fX4_sets v1 ((nI 14) + v5) r15 t16) (As := [.int v1, .int ((nI 14) + v5), .int r15]) (rest := []) (n := 3) (d' := 1) (st1 := fun _ => []) hC hnL (wX4_sets (gLn X) Z hC.2.2.1 v1 ((nI 14) + v5) r15 t16) dX4_comesBack_106 (lw_V q1380 q1382 qs34 q78 q1383) (by decide +kernel) rfl (by decide) (by decide) (Nat.le_of_ble_eq_true rfl) (fun _ => rfl) (fun r17 t18 => ?_)
      refine gf_letiinc hG (c := (nI 1)) (lv' := fun y19 => [(0, .ref (Z.2.2.2 18)), (1, .int v1), (2, .int v2), (3, .int v3), (4, .int v4), (5, .int y19)]) dX4_comesBack_109 rfl (by decide) (Nat.le_of_ble_eq_true rfl) (fun _ => rfl) (fun y19 => ?_)
      refine gf_goto hG (tgt := 80) dX4_comesBack_112 (by decide) ?_
      exact ih y19 t18
    · refine gf_sub [0, 1, 2, 3, 4] rfl ?_
      exact hkx t
def fX4_comesBack (v1 : Int32) (t : tSt) : Option (Unit × tSt) :=
  ob (fX4_at v1 (nI 13) t) (fun r1 t2 =>
  ob (fX4_at v1 (nI 38) t2) (fun r3 t4 =>
  jn (fun (x5 : Int32) (t6 : tSt) =>
    letv ((((nI 2) * r1) - (nI 1))) (fun y8 =>
    fX4_comesBack_L41 v1 r1 r3 x5 (fun  (t14 : tSt) =>
      fX4_comesBack_L80 v1 r1 r3 x5 (fun  (t20 : tSt) =>
        ob (fX4_sets v1 (nI 13) (r1 + x5) t20) (fun r21 t22 =>
        ob (fX4_sets v1 (nI 38) (nI 0) t22) (fun r23 t24 =>
        rv (trd t24 0 (nI 927)) (fun x25 =>
        rv (twr t24 0 (nI 927) (x25 + (r3 - x5))) (fun t26 =>
        some ((), t26)
        )
        )
        )
        )
        ) FU (nI 0) t14
      ) FU y8 t6
    )
    ) (fun (j7 : Int32 → tSt → Option (Unit × tSt)) =>
    if r3 < ((nI 12) - r1) then
      j7 r3 t4
    else
      j7 ((nI 12) - r1) t4
    )
  )
  )
set_option maxHeartbeats 4000000 in
theorem wX4_comesBack (l : Launch) (Z : tZ) (hj : tInj Z) (v1 : Int32) (t : tSt)  : ∀ (r : Unit) (t' : tSt), fX4_comesBack v1 t = some (r, t') → tCt l Z yX4_comesBack cX4_comesBack 6 none 2 [.ref (Z.2.2.2 18), .int v1] t none t' := by
  refine tmet (ρ := (fun _ : Unit => (none : Option Value))) (av := [.ref (Z.2.2.2 18), .int v1]) hj (by decide +kernel) (Nat.le_of_ble_eq_true rfl) (lv_args_cat (List.forall_mem_cons.mpr ⟨rfl, List.forall_mem_cons.mpr ⟨rfl, fun _ h => absurd h List.not_mem_nil⟩⟩)) ?_
  intro X hln hC hnL hrt
  subst hln
  have hG := hC.1
  show GF X (tM Z X 6 (fun _ : Unit => (none : Option Value))) _ t 0 [(0, .ref (Z.2.2.2 18)), (1, .int v1)] []
  unfold fX4_comesBack
  refine gf_aload_n hG dX4_comesBack_0 rfl rfl ?_
  refine gf_iload_n hG dX4_comesBack_1 rfl rfl ?_
  refine gf_bipush hG (nI 13) dX4_comesBack_2 (by decide) ?_
  refine tf_callV (f := fX4_at v1 (nI 13) t) (As := [.int v1, .int (nI 13)]) (rest := []) (n := 2) (d' := 1) (st1 := fun r1 => [.int r1]) hC hnL (wX4_at (gLn X) Z hC.2.2.1 v1 (nI 13) t) dX4_comesBack_4 (lw_V q1376 q1378 qs33 q78 q1379) (by decide +kernel) rfl (by decide) (by decide) (Nat.le_of_ble_eq_true rfl) (fun _ => rfl) (fun r1 t2 => ?_)
  refine gf_istore_n hG dX4_comesBack_7 rfl (Nat.le_of_ble_eq_true rfl) (lv' := [(0, _), (1, _), (2, _)]) rfl ?_
  refine gf_aload_n hG dX4_comesBack_8 rfl rfl ?_
  refine gf_iload_n hG dX4_comesBack_9 rfl rfl ?_
  refine gf_bipush hG (nI 38) dX4_comesBack_10 (by decide) ?_
  refine tf_callV (f := fX4_at v1 (nI 38) t2) (As := [.int v1, .int (nI 38)]) (rest := []) (n := 2) (d' := 1) (st1 := fun r3 => [.int r3]) hC hnL (wX4_at (gLn X) Z hC.2.2.1 v1 (nI 38) t2) dX4_comesBack_12 (lw_V q1376 q1378 qs33 q78 q1379) (by decide +kernel) rfl (by decide) (by decide) (Nat.le_of_ble_eq_true rfl) (fun _ => rfl) (fun r3 t4 => ?_)
  refine gf_istore_n hG dX4_comesBack_15 rfl (Nat.le_of_ble_eq_true rfl) (lv' := [(0, _), (1, _), (2, _), (3, _)]) rfl ?_
  refine gf_iload_n hG dX4_comesBack_16 rfl rfl ?_
  refine gf_bipush hG (nI 12) dX4_comesBack_17 (by decide) ?_
  refine gf_iload_n hG dX4_comesBack_19 rfl rfl ?_
  refine gf_isub hG dX4_comesBack_20 ?_
  refine gf_jn (fun j_ => ∀ (x5 : Int32) (t6 : tSt), GF X (tM Z X 6 (fun _ : Unit => (none : Option Value))) (j_ x5 t6) t6 32 [(0, .ref (Z.2.2.2 18)), (1, .int v1), (2, .int r1), (3, .int r3)] [.int x5]) (fun x5 t6 => ?_) (fun j7 hj7 => ?_)
  · refine gf_istore hG dX4_comesBack_32 (Nat.le_of_ble_eq_true rfl) (lv' := [(0, _), (1, _), (2, _), (3, _), (4, _)]) rfl ?_
    refine gf_iconst hG (nI 2) dX4_comesBack_34 (by decide) ?_
    refine gf_iload_n hG dX4_comesBack_35 rfl rfl ?_
    refine gf_imul hG dX4_comesBack_36 ?_
    refine gf_iconst hG (nI 1) dX4_comesBack_37 (by decide) ?_
    refine gf_isub hG dX4_comesBack_38 ?_
    refine gf_letv (fun y8 hy8 => ?_)
    refine gf_istore hG dX4_comesBack_39 (Nat.le_of_ble_eq_true rfl) (lv' := [(0, _), (1, _), (2, _), (3, _), (4, _), (5, _)]) rfl ?_
    refine gfX4_comesBack_L41 hC hnL hrt v1 r1 r3 x5 _ (fun t14 => ?_) FU y8 t6
    refine gf_iconst hG (nI 0) dX4_comesBack_77 (by decide) ?_
    refine gf_istore hG dX4_comesBack_78 (Nat.le_of_ble_eq_true rfl) (lv' := [(0, _), (1, _), (2, _), (3, _), (4, _), (5, _)]) rfl ?_
    refine gfX4_comesBack_L80 hC hnL hrt v1 r1 r3 x5 _ (fun t20 => ?_) FU (nI 0) t14
    refine gf_aload_n hG dX4_comesBack_115 rfl rfl ?_
    refine gf_iload_n hG dX4_comesBack_116 rfl rfl ?_
    refine gf_bipush hG (nI 13) dX4_comesBack_117 (by decide) ?_
    refine gf_iload_n hG dX4_comesBack_119 rfl rfl ?_
    refine gf_iload hG dX4_comesBack_120 rfl ?_
    refine gf_iadd hG dX4_comesBack_122 ?_
    refine tf_callV (f := fX4_sets v1 (nI 13) (r1 + x5) t20) (As := [.int v1, .int (nI 13), .int (r1 + x5)]) (rest := []) (n := 3) (d' := 1) (st1 := fun _ => []) hC hnL (wX4_sets (gLn X) Z hC.2.2.1 v1 (nI 13) (r1 + x5) t20) dX4_comesBack_123 (lw_V q1380 q1382 qs34 q78 q1383) (by decide +kernel) rfl (by decide) (by decide) (Nat.le_of_ble_eq_true rfl) (fun _ => rfl) (fun r21 t22 => ?_)
    refine gf_aload_n hG dX4_comesBack_126 rfl rfl ?_
    refine gf_iload_n hG dX4_comesBack_127 rfl rfl ?_
    refine gf_bipush hG (nI 38) dX4_comesBack_128 (by decide) ?_
    refine gf_iconst hG (nI 0) dX4_comesBack_130 (by decide) ?_
    refine tf_callV (f := fX4_sets v1 (nI 38) (nI 0) t22) (As := [.int v1, .int (nI 38), .int (nI 0)]) (rest := []) (n := 3) (d' := 1) (st1 := fun _ => []) hC hnL (wX4_sets (gLn X) Z hC.2.2.1 v1 (nI 38) (nI 0) t22) dX4_comesBack_131 (lw_V q1380 q1382 qs34 q78 q1383) (by decide +kernel) rfl (by decide) (by decide) (Nat.le_of_ble_eq_true rfl) (fun _ => rfl) (fun r23 t24 => ?_)
    refine gf_aload_n hG dX4_comesBack_134 rfl rfl ?_
    refine tf_get hC 0 dX4_comesBack_135 (by decide) q1287 rfl ?_
    refine gf_sipush hG (nI 927) dX4_comesBack_138 (by decide) ?_
    refine gf_dup2 hG dX4_comesBack_141 rfl rfl ?_
    refine tf_iald hC dX4_comesBack_142 (by decide) (fun x25 => ?_)
    refine gf_iload_n hG dX4_comesBack_143 rfl rfl ?_
    refine gf_iload hG dX4_comesBack_144 rfl ?_
    refine gf_isub hG dX4_comesBack_146 ?_
    refine gf_iadd hG dX4_comesBack_147 ?_
    refine tf_iast hC dX4_comesBack_148 (by decide) (fun t26 => ?_)
    exact tf_vret hC hrt rfl dX4_comesBack_149
  · refine gf_icmp_ge hG (tgt := 28) dX4_comesBack_21 (by decide) ?_ ?_
    · refine gf_iload_n hG dX4_comesBack_24 rfl rfl ?_
      refine gf_goto hG (tgt := 32) dX4_comesBack_25 (by decide) ?_
      exact hj7 r3 t4
    · refine gf_bipush hG (nI 12) dX4_comesBack_28 (by decide) ?_
      refine gf_iload_n hG dX4_comesBack_30 rfl rfl ?_
      refine gf_isub hG dX4_comesBack_31 ?_
      exact hj7 ((nI 12) - r1) t4
def fX4_restarts (v1 : Int32) (t : tSt) : Option (Unit × tSt) :=
  ob (fX4_stopsChildren (fX4_stops 13) v1 t) (fun r1 t2 =>
  ob (fX4_sets v1 (nI 6) (nI 0) t2) (fun r3 t4 =>
  ob (fX4_forgets v1 t4) (fun r5 t6 =>
  ob (fX4_comesBack v1 t6) (fun r7 t8 =>
  letv (tup t8 18 6 ((t8 18 6) ||| (ishl32 (nI 1) v1))) (fun t9 =>
  some ((), t9)
  )
  )
  )
  )
  )
set_option maxHeartbeats 4000000 in
theorem wX4_restarts (l : Launch) (Z : tZ) (hj : tInj Z) (v1 : Int32) (t : tSt)  : ∀ (r : Unit) (t' : tSt), fX4_restarts v1 t = some (r, t') → tCt l Z yX4_restarts cX4_restarts 2 none 40 [.ref (Z.2.2.2 18), .int v1] t none t' := by
  refine tmet (ρ := (fun _ : Unit => (none : Option Value))) (av := [.ref (Z.2.2.2 18), .int v1]) hj (by decide +kernel) (Nat.le_of_ble_eq_true rfl) (lv_args_cat (List.forall_mem_cons.mpr ⟨rfl, List.forall_mem_cons.mpr ⟨rfl, fun _ h => absurd h List.not_mem_nil⟩⟩)) ?_
  intro X hln hC hnL hrt
  subst hln
  have hG := hC.1
  show GF X (tM Z X 2 (fun _ : Unit => (none : Option Value))) _ t 0 [(0, .ref (Z.2.2.2 18)), (1, .int v1)] []
  unfold fX4_restarts
  refine gf_aload_n hG dX4_restarts_0 rfl rfl ?_
  refine gf_iload_n hG dX4_restarts_1 rfl rfl ?_
  refine tf_callV (f := fX4_stopsChildren (fX4_stops 13) v1 t) (As := [.int v1]) (rest := []) (n := 1) (d' := (38 + 1)) (st1 := fun _ => []) hC hnL (wX4_stopsChildren (gLn X) Z hC.2.2.1 (fX4_stops 13) 38 (by omega) (fun a t => wX4_stops 13 (gLn X) Z hC.2.2.1 a t) v1 t) dX4_restarts_2 (lw_V q1459 q1461 qs43 q78 q1462) (by decide +kernel) rfl (by omega) (by decide) (Nat.le_of_ble_eq_true rfl) (fun _ => rfl) (fun r1 t2 => ?_)
  refine gf_aload_n hG dX4_restarts_5 rfl rfl ?_
  refine gf_iload_n hG dX4_restarts_6 rfl rfl ?_
  refine gf_bipush hG (nI 6) dX4_restarts_7 (by decide) ?_
  refine gf_iconst hG (nI 0) dX4_restarts_9 (by decide) ?_
  refine tf_callV (f := fX4_sets v1 (nI 6) (nI 0) t2) (As := [.int v1, .int (nI 6), .int (nI 0)]) (rest := []) (n := 3) (d' := 1) (st1 := fun _ => []) hC hnL (wX4_sets (gLn X) Z hC.2.2.1 v1 (nI 6) (nI 0) t2) dX4_restarts_10 (lw_V q1380 q1382 qs34 q78 q1383) (by decide +kernel) rfl (by decide) (by decide) (Nat.le_of_ble_eq_true rfl) (fun _ => rfl) (fun r3 t4 => ?_)
  refine gf_aload_n hG dX4_restarts_13 rfl rfl ?_
  refine gf_iload_n hG dX4_restarts_14 rfl rfl ?_
  refine tf_callV (f := fX4_forgets v1 t4) (As := [.int v1]) (rest := []) (n := 1) (d' := 2) (st1 := fun _ => []) hC hnL (wX4_forgets (gLn X) Z hC.2.2.1 v1 t4) dX4_restarts_15 (lw_V q1467 q1469 qs45 q78 q1470) (by decide +kernel) rfl (by decide) (by decide) (Nat.le_of_ble_eq_true rfl) (fun _ => rfl) (fun r5 t6 => ?_)
  refine gf_aload_n hG dX4_restarts_18 rfl rfl ?_
  refine gf_iload_n hG dX4_restarts_19 rfl rfl ?_
  refine tf_callV (f := fX4_comesBack v1 t6) (As := [.int v1]) (rest := []) (n := 1) (d' := 2) (st1 := fun _ => []) hC hnL (wX4_comesBack (gLn X) Z hC.2.2.1 v1 t6) dX4_restarts_20 (lw_V q1522 q1524 qs57 q78 q1525) (by decide +kernel) rfl (by decide) (by decide) (Nat.le_of_ble_eq_true rfl) (fun _ => rfl) (fun r7 t8 => ?_)
  refine gf_aload_n hG dX4_restarts_23 rfl rfl ?_
  refine gf_dup hG dX4_restarts_24 rfl ?_
  refine tf_get hC 6 dX4_restarts_25 (by decide) q1293 rfl ?_
  refine gf_iconst hG (nI 1) dX4_restarts_28 (by decide) ?_
  refine gf_iload_n hG dX4_restarts_29 rfl rfl ?_
  refine gf_ishl hG dX4_restarts_30 ?_
  refine gf_ior hG dX4_restarts_31 ?_
  refine tf_put hC 6 dX4_restarts_32 (by decide) q1293 rfl (by first | rfl | decide) (by first | rfl | decide) (fun _ => rfl) ?_
  refine gf_letS (fun t9 => ?_)
  exact tf_vret hC hrt rfl dX4_restarts_35
def fX4_fails_L34  (kx : Int32 → tSt → Option (Unit × tSt)) : Nat → Int32 → Int32 → tSt → Option (Unit × tSt)
  | 0, _, _, _ => none
  | k + 1, v3, v4, t =>
    if v4 = 0 then
      kx v3 t
    else
      ob (fX4_at v3 (nI 0) t) (fun r6 t7 =>
      jn (fun (x8 : Int32) (t9 : tSt) =>
        jn (fun (x11 : Int32) (t12 : tSt) =>
          fX4_fails_L34 kx k x11 x8 t12
          ) (fun (j13 : Int32 → tSt → Option (Unit × tSt)) =>
          if x8 = 0 then
            j13 v3 t9
          else
            rv (twr t9 4 ((nI 2) * (t9 18 9)) r6) (fun t14 =>
            rv (twr t14 4 (((nI 2) * (t14 18 9)) + (nI 1)) (nI 9)) (fun t15 =>
            letv (tup t15 18 9 ((t15 18 9) + (nI 1))) (fun t16 =>
            j13 r6 t16
            )
            )
            )
          )
        ) (fun (j10 : Int32 → tSt → Option (Unit × tSt)) =>
        jn (fun  (t17 : tSt) =>
          j10 (nI 0) t17
          ) (fun (j18 : tSt → Option (Unit × tSt)) =>
          if r6 < 0 then
            j18 t7
          else
            ob (fX4_isOverBudget r6 t7) (fun r19 t20 =>
            if r19 = 0 then
              j18 t20
            else
              j10 (nI 1) t20
            )
          )
        )
      )
set_option maxHeartbeats 4000000 in
theorem gfX4_fails_L34 {X : gCx} {Z : tZ} (hC : tOk X Z RX4 cX4_fails 41) (hnL : gLoc X = 9) (hrt : gRet X = none)   (kx : Int32 → tSt → Option (Unit × tSt)) (hkx : ∀ (v3 : Int32) (t : tSt), GF X (tM Z X 9 (fun _ : Unit => (none : Option Value))) (kx v3 t) t 117 [(0, .ref (Z.2.2.2 18)), (3, .int v3)] []) : ∀ (k : Nat) (v3 : Int32) (v4 : Int32) (t : tSt), GF X (tM Z X 9 (fun _ : Unit => (none : Option Value))) (fX4_fails_L34 kx k v3 v4 t) t 34 [(0, .ref (Z.2.2.2 18)), (3, .int v3), (4, .int v4)] [] := by
  have hG := hC.1
  intro k
  induction k with
  | zero => intro v3 v4 t; exact gf_none
  | succ k ih =>
    intro v3 v4 t
    rw [fX4_fails_L34]
    refine gf_iload hG dX4_fails_34 rfl ?_
    refine gf_if_eq hG (tgt := 117) dX4_fails_36 (by decide) ?_ ?_
    · refine gf_sub [0, 1] rfl ?_
      exact hkx v3 t
    · refine gf_aload_n hG dX4_fails_39 rfl rfl ?_
      refine gf_iload_n hG dX4_fails_40 rfl rfl ?_
      refine gf_iconst hG (nI 0) dX4_fails_41 (by decide) ?_
      refine tf_callV (f := fX4_at v3 (nI 0) t) (As := [.int v3, .int (nI 0)]) (rest := []) (n := 2) (d' := 1) (st1 := fun r6 => [.int r6]) hC hnL (wX4_at (gLn X) Z hC.2.2.1 v3 (nI 0) t) dX4_fails_42 (lw_V q1376 q1378 qs33 q78 q1379) (by decide +kernel) rfl (by decide) (by decide) (Nat.le_of_ble_eq_true rfl) (fun _ => rfl) (fun r6 t7 => ?_)
      refine gf_istore hG dX4_fails_45 (Nat.le_of_ble_eq_true rfl) (lv' := [(0, _), (3, _), (4, _), (5, _)]) rfl ?_
      refine gf_iload hG dX4_fails_47 rfl ?_
      refine gf_jn (fun j_ => ∀ (x8 : Int32) (t9 : tSt), GF X (tM Z X 9 (fun _ : Unit => (none : Option Value))) (j_ x8 t9) t9 66 [(0, .ref (Z.2.2.2 18)), (3, .int v3), (5, .int r6)] [.int x8]) (fun x8 t9 => ?_) (fun j10 hj10 => ?_)
      · refine gf_istore hG dX4_fails_66 (Nat.le_of_ble_eq_true rfl) (lv' := [(0, _), (3, _), (4, _), (5, _)]) rfl ?_
        refine gf_iload hG dX4_fails_68 rfl ?_
        refine gf_jn (fun j_ => ∀ (x11 : Int32) (t12 : tSt), GF X (tM Z X 9 (fun _ : Unit => (none : Option Value))) (j_ x11 t12) t12 114 [(0, .ref (Z.2.2.2 18)), (3, .int x11), (4, .int x8)] []) (fun x11 t12 => ?_) (fun j13 hj13 => ?_)
        · refine gf_goto hG (tgt := 34) dX4_fails_114 (by decide) ?_
          exact ih x11 x8 t12
        · refine gf_if_eq hG (tgt := 114) dX4_fails_70 (by decide) ?_ ?_
          · refine gf_sub [0, 1, 2] rfl ?_
            exact hj13 v3 t9
          · refine gf_iload hG dX4_fails_73 rfl ?_
            refine gf_istore_n hG dX4_fails_75 rfl (Nat.le_of_ble_eq_true rfl) (lv' := [(0, _), (3, _), (4, _), (5, _)]) rfl ?_
            refine gf_aload_n hG dX4_fails_76 rfl rfl ?_
            refine tf_get hC 8 dX4_fails_77 (by decide) q1295 rfl ?_
            refine gf_iconst hG (nI 2) dX4_fails_80 (by decide) ?_
            refine gf_aload_n hG dX4_fails_81 rfl rfl ?_
            refine tf_get hC 9 dX4_fails_82 (by decide) q1296 rfl ?_
            refine gf_imul hG dX4_fails_85 ?_
            refine gf_iload hG dX4_fails_86 rfl ?_
            refine tf_iast hC dX4_fails_88 (by decide) (fun t14 => ?_)
            refine gf_aload_n hG dX4_fails_89 rfl rfl ?_
            refine tf_get hC 8 dX4_fails_90 (by decide) q1295 rfl ?_
            refine gf_iconst hG (nI 2) dX4_fails_93 (by decide) ?_
            refine gf_aload_n hG dX4_fails_94 rfl rfl ?_
            refine tf_get hC 9 dX4_fails_95 (by decide) q1296 rfl ?_
            refine gf_imul hG dX4_fails_98 ?_
            refine gf_iconst hG (nI 1) dX4_fails_99 (by decide) ?_
            refine gf_iadd hG dX4_fails_100 ?_
            refine gf_bipush hG (nI 9) dX4_fails_101 (by decide) ?_
            refine tf_iast hC dX4_fails_103 (by decide) (fun t15 => ?_)
            refine gf_aload_n hG dX4_fails_104 rfl rfl ?_
            refine gf_dup hG dX4_fails_105 rfl ?_
            refine tf_get hC 9 dX4_fails_106 (by decide) q1296 rfl ?_
            refine gf_iconst hG (nI 1) dX4_fails_109 (by decide) ?_
            refine gf_iadd hG dX4_fails_110 ?_
            refine tf_put hC 9 dX4_fails_111 (by decide) q1296 rfl (by first | rfl | decide) (by first | rfl | decide) (fun _ => rfl) ?_
            refine gf_letS (fun t16 => ?_)
            refine gf_sub [0, 1, 2] rfl ?_
            exact hj13 r6 t16
      · refine gf_jn (fun j_ => ∀  (t17 : tSt), GF X (tM Z X 9 (fun _ : Unit => (none : Option Value))) (j_ t17) t17 65 [(0, .ref (Z.2.2.2 18)), (3, .int v3), (5, .int r6)] []) (fun t17 => ?_) (fun j18 hj18 => ?_)
        · refine gf_iconst hG (nI 0) dX4_fails_65 (by decide) ?_
          exact hj10 (nI 0) t17
        · refine gf_if_lt hG (tgt := 65) dX4_fails_49 (by decide) ?_ ?_
          · refine gf_sub [0, 1, 3] rfl ?_
            exact hj18 t7
          · refine gf_aload_n hG dX4_fails_52 rfl rfl ?_
            refine gf_iload hG dX4_fails_53 rfl ?_
            refine tf_callV (f := fX4_isOverBudget r6 t7) (As := [.int r6]) (rest := []) (n := 1) (d' := 3) (st1 := fun r19 => [.int r19]) hC hnL (wX4_isOverBudget (gLn X) Z hC.2.2.1 r6 t7) dX4_fails_55 (lw_V q1514 q1516 qs55 q78 q1517) (by decide +kernel) rfl (by decide) (by decide) (Nat.le_of_ble_eq_true rfl) (fun _ => rfl) (fun r19 t20 => ?_)
            refine gf_if_eq hG (tgt := 65) dX4_fails_58 (by decide) ?_ ?_
            · refine gf_sub [0, 1, 3] rfl ?_
              exact hj18 t20
            · refine gf_iconst hG (nI 1) dX4_fails_61 (by decide) ?_
              refine gf_goto hG (tgt := 66) dX4_fails_62 (by decide) ?_
              refine gf_sub [0, 1, 3] rfl ?_
              exact hj10 (nI 1) t20
def fX4_fails_L132 (v3 : Int32) (kx : tSt → Option (Unit × tSt)) : Nat → Int32 → tSt → Option (Unit × tSt)
  | 0, _, _ => none
  | k + 1, v5, t =>
    if v5 < (t 18 9) then
      rv (trd t 4 ((nI 2) * (((t 18 9) - (nI 1)) - v5))) (fun x24 =>
      rv (twr t 0 ((nI 994) + ((nI 2) * v5)) x24) (fun t25 =>
      rv (trd t25 4 (((nI 2) * (((t25 18 9) - (nI 1)) - v5)) + (nI 1))) (fun x26 =>
      rv (twr t25 0 (((nI 994) + ((nI 2) * v5)) + (nI 1)) x26) (fun t27 =>
      letv (v5 + (nI 1)) (fun y28 =>
      fX4_fails_L132 v3 kx k y28 t27
      )
      )
      )
      )
      )
    else
      kx t
set_option maxHeartbeats 4000000 in
theorem gfX4_fails_L132 {X : gCx} {Z : tZ} (hC : tOk X Z RX4 cX4_fails 41) (hnL : gLoc X = 9) (hrt : gRet X = none) (v3 : Int32)  (kx : tSt → Option (Unit × tSt)) (hkx : ∀  (t : tSt), GF X (tM Z X 9 (fun _ : Unit => (none : Option Value))) (kx t) t 209 [(0, .ref (Z.2.2.2 18)), (3, .int v3)] []) : ∀ (k : Nat) (v5 : Int32) (t : tSt), GF X (tM Z X 9 (fun _ : Unit => (none : Option Value))) (fX4_fails_L132 v3 kx k v5 t) t 132 [(0, .ref (Z.2.2.2 18)), (3, .int v3), (5, .int v5)] [] := by
  have hG := hC.1
  intro k
  induction k with
  | zero => intro v5 t; exact gf_none
  | succ k ih =>
    intro v5 t
    rw [fX4_fails_L132]
    refine gf_iload hG dX4_fails_132 rfl ?_
    refine gf_aload_n hG dX4_fails_134 rfl rfl ?_
    refine tf_get hC 9 dX4_fails_135 (by decide) q1296 rfl ?_
    refine gf_icmp_ge hG (tgt := 209) dX4_fails_138 (by decide) ?_ ?_
    · refine gf_aload_n hG dX4_fails_141 rfl rfl ?_
      refine tf_get hC 0 dX4_fails_142 (by decide) q1287 rfl ?_
      refine gf_sipush hG (nI 994) dX4_fails_145 (by decide) ?_
      refine gf_iconst hG (nI 2) dX4_fails_148 (by decide) ?_
      refine gf_iload hG dX4_fails_149 rfl ?_
      refine gf_imul hG dX4_fails_151 ?_
      refine gf_iadd hG dX4_fails_152 ?_
      refine gf_aload_n hG dX4_fails_153 rfl rfl ?_
      refine tf_get hC 8 dX4_fails_154 (by decide) q1295 rfl ?_
      refine gf_iconst hG (nI 2) dX4_fails_157 (by decide) ?_
      refine gf_aload_n hG dX4_fails_158 rfl rfl ?_
      refine tf_get hC 9 dX4_fails_159 (by decide) q1296 rfl ?_
      refine gf_iconst hG (nI 1) dX4_fails_162 (by decide) ?_
      refine gf_isub hG dX4_fails_163 ?_
      refine gf_iload hG dX4_fails_164 rfl ?_
      refine gf_isub hG dX4_fails_166 ?_
      refine gf_imul hG dX4_fails_167 ?_
      refine tf_iald hC dX4_fails_168 (by decide) (fun x24 => ?_)
      refine tf_iast hC dX4_fails_169 (by decide) (fun t25 => ?_)
      refine gf_aload_n hG dX4_fails_170 rfl rfl ?_
      refine tf_get hC 0 dX4_fails_171 (by decide) q1287 rfl ?_
      refine gf_sipush hG (nI 994) dX4_fails_174 (by decide) ?_
      refine gf_iconst hG (nI 2) dX4_fails_177 (by decide) ?_
      refine gf_iload hG dX4_fails_178 rfl ?_
      refine gf_imul hG dX4_fails_180 ?_
      refine gf_iadd hG dX4_fails_181 ?_
      refine gf_iconst hG (nI 1) dX4_fails_182 (by decide) ?_
      refine gf_iadd hG dX4_fails_183 ?_
      refine gf_aload_n hG dX4_fails_184 rfl rfl ?_
      refine tf_get hC 8 dX4_fails_185 (by decide) q1295 rfl ?_
      refine gf_iconst hG (nI 2) dX4_fails_188 (by decide) ?_
      refine gf_aload_n hG dX4_fails_189 rfl rfl ?_
      refine tf_get hC 9 dX4_fails_190 (by decide) q1296 rfl ?_
      refine gf_iconst hG (nI 1) dX4_fails_193 (by decide) ?_
      refine gf_isub hG dX4_fails_194 ?_
      refine gf_iload hG dX4_fails_195 rfl ?_
      refine gf_isub hG dX4_fails_197 ?_
      refine gf_imul hG dX4_fails_198 ?_
      refine gf_iconst hG (nI 1) dX4_fails_199 (by decide) ?_
      refine gf_iadd hG dX4_fails_200 ?_
      refine tf_iald hC dX4_fails_201 (by decide) (fun x26 => ?_)
      refine tf_iast hC dX4_fails_202 (by decide) (fun t27 => ?_)
      refine gf_letiinc hG (c := (nI 1)) (lv' := fun y28 => [(0, .ref (Z.2.2.2 18)), (3, .int v3), (5, .int y28)]) dX4_fails_203 rfl (by decide) (Nat.le_of_ble_eq_true rfl) (fun _ => rfl) (fun y28 => ?_)
      refine gf_goto hG (tgt := 132) dX4_fails_206 (by decide) ?_
      exact ih y28 t27
    · refine gf_sub [0, 1] rfl ?_
      exact hkx t
def fX4_fails_L240 (v3 : Int32) (v5 : Int32) (v6 : Int32) (kx : tSt → Option (Unit × tSt)) : Nat → Int32 → tSt → Option (Unit × tSt)
  | 0, _, _ => none
  | k + 1, v7, t =>
    rv (trd t 0 (nI 924)) (fun x36 =>
    if v7 < x36 then
      jn (fun (x37 : Int32) (t38 : tSt) =>
        jn (fun  (t40 : tSt) =>
          letv (v7 + (nI 1)) (fun y42 =>
          fX4_fails_L240 v3 v5 v6 kx k y42 t40
          )
          ) (fun (j41 : tSt → Option (Unit × tSt)) =>
          if x37 = 0 then
            j41 t38
          else
            ob (fX4_isLiveChild v7 v5 t38) (fun r43 t44 =>
            if r43 = 0 then
              j41 t44
            else
              ob (fX4_restarts v7 t44) (fun r45 t46 =>
              j41 t46
              )
            )
          )
        ) (fun (j39 : Int32 → tSt → Option (Unit × tSt)) =>
        jn (fun  (t47 : tSt) =>
          j39 (nI 1) t47
          ) (fun (j48 : tSt → Option (Unit × tSt)) =>
          if v7 = v3 then
            j48 t
          else
            if v6 = (nI 1) then
              j48 t
            else
              jn (fun  (t49 : tSt) =>
                j39 (nI 0) t49
                ) (fun (j50 : tSt → Option (Unit × tSt)) =>
                if v6 = (nI 2) then
                  if v3 < v7 then
                    j48 t
                  else
                    j50 t
                else
                  j50 t
                )
          )
        )
    else
      kx t
    )
set_option maxHeartbeats 4000000 in
theorem gfX4_fails_L240 {X : gCx} {Z : tZ} (hC : tOk X Z RX4 cX4_fails 41) (hnL : gLoc X = 9) (hrt : gRet X = none) (v3 : Int32) (v5 : Int32) (v6 : Int32)  (kx : tSt → Option (Unit × tSt)) (hkx : ∀  (t : tSt), GF X (tM Z X 9 (fun _ : Unit => (none : Option Value))) (kx t) t 312 [] []) : ∀ (k : Nat) (v7 : Int32) (t : tSt), GF X (tM Z X 9 (fun _ : Unit => (none : Option Value))) (fX4_fails_L240 v3 v5 v6 kx k v7 t) t 240 [(0, .ref (Z.2.2.2 18)), (3, .int v3), (5, .int v5), (6, .int v6), (7, .int v7)] [] := by
  have hG := hC.1
  intro k
  induction k with
  | zero => intro v7 t; exact gf_none
  | succ k ih =>
    intro v7 t
    rw [fX4_fails_L240]
    refine gf_iload hG dX4_fails_240 rfl ?_
    refine gf_aload_n hG dX4_fails_242 rfl rfl ?_
    refine tf_get hC 0 dX4_fails_243 (by decide) q1287 rfl ?_
    refine gf_sipush hG (nI 924) dX4_fails_246 (by decide) ?_
    refine tf_iald hC dX4_fails_249 (by decide) (fun x36 => ?_)
    refine gf_icmp_ge hG (tgt := 312) dX4_fails_250 (by decide) ?_ ?_
    · refine gf_iload hG dX4_fails_253 rfl ?_
      refine gf_iload_n hG dX4_fails_255 rfl rfl ?_
      refine gf_jn (fun j_ => ∀ (x37 : Int32) (t38 : tSt), GF X (tM Z X 9 (fun _ : Unit => (none : Option Value))) (j_ x37 t38) t38 282 [(0, .ref (Z.2.2.2 18)), (3, .int v3), (5, .int v5), (6, .int v6), (7, .int v7)] [.int x37]) (fun x37 t38 => ?_) (fun j39 hj39 => ?_)
      · refine gf_istore hG dX4_fails_282 (Nat.le_of_ble_eq_true rfl) (lv' := [(0, _), (3, _), (5, _), (6, _), (7, _), (8, _)]) rfl ?_
        refine gf_iload hG dX4_fails_284 rfl ?_
        refine gf_jn (fun j_ => ∀  (t40 : tSt), GF X (tM Z X 9 (fun _ : Unit => (none : Option Value))) (j_ t40) t40 306 [(0, .ref (Z.2.2.2 18)), (3, .int v3), (5, .int v5), (6, .int v6), (7, .int v7)] []) (fun t40 => ?_) (fun j41 hj41 => ?_)
        · refine gf_letiinc hG (c := (nI 1)) (lv' := fun y42 => [(0, .ref (Z.2.2.2 18)), (3, .int v3), (5, .int v5), (6, .int v6), (7, .int y42)]) dX4_fails_306 rfl (by decide) (Nat.le_of_ble_eq_true rfl) (fun _ => rfl) (fun y42 => ?_)
          refine gf_goto hG (tgt := 240) dX4_fails_309 (by decide) ?_
          exact ih y42 t40
        · refine gf_if_eq hG (tgt := 306) dX4_fails_286 (by decide) ?_ ?_
          · refine gf_sub [0, 1, 2, 3, 4] rfl ?_
            exact hj41 t38
          · refine gf_aload_n hG dX4_fails_289 rfl rfl ?_
            refine gf_iload hG dX4_fails_290 rfl ?_
            refine gf_iload hG dX4_fails_292 rfl ?_
            refine tf_callV (f := fX4_isLiveChild v7 v5 t38) (As := [.int v7, .int v5]) (rest := []) (n := 2) (d' := 3) (st1 := fun r43 => [.int r43]) hC hnL (wX4_isLiveChild (gLn X) Z hC.2.2.1 v7 v5 t38) dX4_fails_294 (lw_V q1463 q1465 qs44 q78 q1466) (by decide +kernel) rfl (by decide) (by decide) (Nat.le_of_ble_eq_true rfl) (fun _ => rfl) (fun r43 t44 => ?_)
            refine gf_if_eq hG (tgt := 306) dX4_fails_297 (by decide) ?_ ?_
            · refine gf_sub [0, 1, 2, 3, 4] rfl ?_
              exact hj41 t44
            · refine gf_aload_n hG dX4_fails_300 rfl rfl ?_
              refine gf_iload hG dX4_fails_301 rfl ?_
              refine tf_callV (f := fX4_restarts v7 t44) (As := [.int v7]) (rest := []) (n := 1) (d' := 40) (st1 := fun _ => []) hC hnL (wX4_restarts (gLn X) Z hC.2.2.1 v7 t44) dX4_fails_303 (lw_V q1518 q1520 qs56 q78 q1521) (by decide +kernel) rfl (by decide) (by decide) (Nat.le_of_ble_eq_true rfl) (fun _ => rfl) (fun r45 t46 => ?_)
              refine gf_sub [0, 1, 2, 3, 4] rfl ?_
              exact hj41 t46
      · refine gf_jn (fun j_ => ∀  (t47 : tSt), GF X (tM Z X 9 (fun _ : Unit => (none : Option Value))) (j_ t47) t47 277 [(0, .ref (Z.2.2.2 18)), (3, .int v3), (5, .int v5), (6, .int v6), (7, .int v7)] []) (fun t47 => ?_) (fun j48 hj48 => ?_)
        · refine gf_iconst hG (nI 1) dX4_fails_277 (by decide) ?_
          refine gf_goto hG (tgt := 282) dX4_fails_278 (by decide) ?_
          exact hj39 (nI 1) t47
        · refine gf_icmp_eq hG (tgt := 277) dX4_fails_256 (by decide) ?_ ?_
          · exact hj48 t
          · refine gf_iload hG dX4_fails_259 rfl ?_
            refine gf_iconst hG (nI 1) dX4_fails_261 (by decide) ?_
            refine gf_icmp_eq hG (tgt := 277) dX4_fails_262 (by decide) ?_ ?_
            · exact hj48 t
            · refine gf_iload hG dX4_fails_265 rfl ?_
              refine gf_iconst hG (nI 2) dX4_fails_267 (by decide) ?_
              refine gf_jn (fun j_ => ∀  (t49 : tSt), GF X (tM Z X 9 (fun _ : Unit => (none : Option Value))) (j_ t49) t49 281 [(0, .ref (Z.2.2.2 18)), (3, .int v3), (5, .int v5), (6, .int v6), (7, .int v7)] []) (fun t49 => ?_) (fun j50 hj50 => ?_)
              · refine gf_iconst hG (nI 0) dX4_fails_281 (by decide) ?_
                exact hj39 (nI 0) t49
              · refine gf_icmp_ne hG (tgt := 281) dX4_fails_268 (by decide) ?_ ?_
                · refine gf_iload hG dX4_fails_271 rfl ?_
                  refine gf_iload_n hG dX4_fails_273 rfl rfl ?_
                  refine gf_icmp_le hG (tgt := 281) dX4_fails_274 (by decide) ?_ ?_
                  · exact hj48 t
                  · exact hj50 t
                · exact hj50 t
    · refine gf_sub [] rfl ?_
      exact hkx t
def fX4_fails (v1 : Int32) (v2 : Int32) (t : tSt) : Option (Unit × tSt) :=
  letv (tup t 18 5 (nI 1)) (fun t1 =>
  letv (tup t1 18 9 (nI 0)) (fun t2 =>
  rv (twr t2 4 (nI 0) v1) (fun t3 =>
  rv (twr t3 4 (nI 1) v2) (fun t4 =>
  letv (tup t4 18 9 (nI 1)) (fun t5 =>
  fX4_fails_L34 (fun (v3_21 : Int32) (t22 : tSt) =>
    rv (twr t22 0 (nI 993) (t22 18 9)) (fun t23 =>
    fX4_fails_L132 v3_21 (fun  (t29 : tSt) =>
      ob (fX4_at v3_21 (nI 0) t29) (fun r30 t31 =>
      if r30 < 0 then
        ob (fX4_stops 13 v3_21 t31) (fun r32 t33 =>
        some ((), t33)
        )
      else
        ob (fX4_at r30 (nI 2) t31) (fun r34 t35 =>
        fX4_fails_L240 v3_21 r30 r34 (fun  (t51 : tSt) =>
          some ((), t51)
          ) FU (nI 0) t35
        )
      )
      ) FU (nI 0) t23
    )
    ) FU v1 (nI 1) t5
  )
  )
  )
  )
  )
set_option maxHeartbeats 4000000 in
theorem wX4_fails (l : Launch) (Z : tZ) (hj : tInj Z) (v1 : Int32) (v2 : Int32) (t : tSt)  : ∀ (r : Unit) (t' : tSt), fX4_fails v1 v2 t = some (r, t') → tCt l Z yX4_fails cX4_fails 9 none 41 [.ref (Z.2.2.2 18), .int v1, .int v2] t none t' := by
  refine tmet (ρ := (fun _ : Unit => (none : Option Value))) (av := [.ref (Z.2.2.2 18), .int v1, .int v2]) hj (by decide +kernel) (Nat.le_of_ble_eq_true rfl) (lv_args_cat (List.forall_mem_cons.mpr ⟨rfl, List.forall_mem_cons.mpr ⟨rfl, List.forall_mem_cons.mpr ⟨rfl, fun _ h => absurd h List.not_mem_nil⟩⟩⟩)) ?_
  intro X hln hC hnL hrt
  subst hln
  have hG := hC.1
  show GF X (tM Z X 9 (fun _ : Unit => (none : Option Value))) _ t 0 [(0, .ref (Z.2.2.2 18)), (1, .int v1), (2, .int v2)] []
  unfold fX4_fails
  refine gf_aload_n hG dX4_fails_0 rfl rfl ?_
  refine gf_iconst hG (nI 1) dX4_fails_1 (by decide) ?_
  refine tf_put hC 5 dX4_fails_2 (by decide) q1292 rfl (by first | rfl | decide) (by first | rfl | decide) (fun _ => rfl) ?_
  refine gf_letS (fun t1 => ?_)
  refine gf_aload_n hG dX4_fails_5 rfl rfl ?_
  refine gf_iconst hG (nI 0) dX4_fails_6 (by decide) ?_
  refine tf_put hC 9 dX4_fails_7 (by decide) q1296 rfl (by first | rfl | decide) (by first | rfl | decide) (fun _ => rfl) ?_
  refine gf_letS (fun t2 => ?_)
  refine gf_iload_n hG dX4_fails_10 rfl rfl ?_
  refine gf_istore_n hG dX4_fails_11 rfl (Nat.le_of_ble_eq_true rfl) (lv' := [(0, _), (1, _), (2, _), (3, _)]) rfl ?_
  refine gf_aload_n hG dX4_fails_12 rfl rfl ?_
  refine tf_get hC 8 dX4_fails_13 (by decide) q1295 rfl ?_
  refine gf_iconst hG (nI 0) dX4_fails_16 (by decide) ?_
  refine gf_iload_n hG dX4_fails_17 rfl rfl ?_
  refine tf_iast hC dX4_fails_18 (by decide) (fun t3 => ?_)
  refine gf_aload_n hG dX4_fails_19 rfl rfl ?_
  refine tf_get hC 8 dX4_fails_20 (by decide) q1295 rfl ?_
  refine gf_iconst hG (nI 1) dX4_fails_23 (by decide) ?_
  refine gf_iload_n hG dX4_fails_24 rfl rfl ?_
  refine tf_iast hC dX4_fails_25 (by decide) (fun t4 => ?_)
  refine gf_aload_n hG dX4_fails_26 rfl rfl ?_
  refine gf_iconst hG (nI 1) dX4_fails_27 (by decide) ?_
  refine tf_put hC 9 dX4_fails_28 (by decide) q1296 rfl (by first | rfl | decide) (by first | rfl | decide) (fun _ => rfl) ?_
  refine gf_letS (fun t5 => ?_)
  refine gf_iconst hG (nI 1) dX4_fails_31 (by decide) ?_
  refine gf_istore hG dX4_fails_32 (Nat.le_of_ble_eq_true rfl) (lv' := [(0, _), (1, _), (2, _), (3, _), (4, _)]) rfl ?_
  refine gf_sub [0, 3, 4] rfl ?_
  refine gfX4_fails_L34 hC hnL hrt  _ (fun v3_21 t22 => ?_) FU v1 (nI 1) t5
  refine gf_aload_n hG dX4_fails_117 rfl rfl ?_
  refine tf_get hC 0 dX4_fails_118 (by decide) q1287 rfl ?_
  refine gf_sipush hG (nI 993) dX4_fails_121 (by decide) ?_
  refine gf_aload_n hG dX4_fails_124 rfl rfl ?_
  refine tf_get hC 9 dX4_fails_125 (by decide) q1296 rfl ?_
  refine tf_iast hC dX4_fails_128 (by decide) (fun t23 => ?_)
  refine gf_iconst hG (nI 0) dX4_fails_129 (by decide) ?_
  refine gf_istore hG dX4_fails_130 (Nat.le_of_ble_eq_true rfl) (lv' := [(0, _), (3, _), (5, _)]) rfl ?_
  refine gfX4_fails_L132 hC hnL hrt v3_21 _ (fun t29 => ?_) FU (nI 0) t23
  refine gf_aload_n hG dX4_fails_209 rfl rfl ?_
  refine gf_iload_n hG dX4_fails_210 rfl rfl ?_
  refine gf_iconst hG (nI 0) dX4_fails_211 (by decide) ?_
  refine tf_callV (f := fX4_at v3_21 (nI 0) t29) (As := [.int v3_21, .int (nI 0)]) (rest := []) (n := 2) (d' := 1) (st1 := fun r30 => [.int r30]) hC hnL (wX4_at (gLn X) Z hC.2.2.1 v3_21 (nI 0) t29) dX4_fails_212 (lw_V q1376 q1378 qs33 q78 q1379) (by decide +kernel) rfl (by decide) (by decide) (Nat.le_of_ble_eq_true rfl) (fun _ => rfl) (fun r30 t31 => ?_)
  refine gf_istore hG dX4_fails_215 (Nat.le_of_ble_eq_true rfl) (lv' := [(0, _), (3, _), (5, _)]) rfl ?_
  refine gf_iload hG dX4_fails_217 rfl ?_
  refine gf_if_ge hG (tgt := 228) dX4_fails_219 (by decide) ?_ ?_
  · refine gf_aload_n hG dX4_fails_222 rfl rfl ?_
    refine gf_iload_n hG dX4_fails_223 rfl rfl ?_
    refine tf_callV (f := fX4_stops 13 v3_21 t31) (As := [.int v3_21]) (rest := []) (n := 1) (d' := 38) (st1 := fun _ => []) hC hnL (wX4_stops 13 (gLn X) Z hC.2.2.1 v3_21 t31) dX4_fails_224 (lw_V q1455 q1457 qs42 q78 q1458) (by decide +kernel) rfl (by decide) (by decide) (Nat.le_of_ble_eq_true rfl) (fun _ => rfl) (fun r32 t33 => ?_)
    exact tf_vret hC hrt rfl dX4_fails_227
  · refine gf_aload_n hG dX4_fails_228 rfl rfl ?_
    refine gf_iload hG dX4_fails_229 rfl ?_
    refine gf_iconst hG (nI 2) dX4_fails_231 (by decide) ?_
    refine tf_callV (f := fX4_at r30 (nI 2) t31) (As := [.int r30, .int (nI 2)]) (rest := []) (n := 2) (d' := 1) (st1 := fun r34 => [.int r34]) hC hnL (wX4_at (gLn X) Z hC.2.2.1 r30 (nI 2) t31) dX4_fails_232 (lw_V q1376 q1378 qs33 q78 q1379) (by decide +kernel) rfl (by decide) (by decide) (Nat.le_of_ble_eq_true rfl) (fun _ => rfl) (fun r34 t35 => ?_)
    refine gf_istore hG dX4_fails_235 (Nat.le_of_ble_eq_true rfl) (lv' := [(0, _), (3, _), (5, _), (6, _)]) rfl ?_
    refine gf_iconst hG (nI 0) dX4_fails_237 (by decide) ?_
    refine gf_istore hG dX4_fails_238 (Nat.le_of_ble_eq_true rfl) (lv' := [(0, _), (3, _), (5, _), (6, _), (7, _)]) rfl ?_
    refine gfX4_fails_L240 hC hnL hrt v3_21 r30 r34 _ (fun t51 => ?_) FU (nI 0) t35
    exact tf_vret hC hrt rfl dX4_fails_312
def fX4_holds (v1 : Int32) (v2 : Int32) (v3 : Int32) (t : tSt) : Option (Unit × tSt) :=
  if (irm v3 (nI 2)) = 0 then
    ob (fX4_comesBack v1 t) (fun r1 t2 =>
    some ((), t2)
    )
  else
    ob (fX4_at v1 (nI 38) t) (fun r3 t4 =>
    if r3 = (nI 6) then
      ob (fX4_fails v1 (nI 3) t4) (fun r5 t6 =>
      some ((), t6)
      )
    else
      ob (fX4_at v1 (nI 38) t4) (fun r7 t8 =>
      ob (fX4_sets v1 ((nI 39) + ((nI 2) * r7)) v2 t8) (fun r9 t10 =>
      ob (fX4_sets v1 (((nI 39) + ((nI 2) * r7)) + (nI 1)) v3 t10) (fun r11 t12 =>
      ob (fX4_sets v1 (nI 38) (r7 + (nI 1)) t12) (fun r13 t14 =>
      some ((), t14)
      )
      )
      )
      )
    )
set_option maxHeartbeats 4000000 in
theorem wX4_holds (l : Launch) (Z : tZ) (hj : tInj Z) (v1 : Int32) (v2 : Int32) (v3 : Int32) (t : tSt)  : ∀ (r : Unit) (t' : tSt), fX4_holds v1 v2 v3 t = some (r, t') → tCt l Z yX4_holds cX4_holds 5 none 42 [.ref (Z.2.2.2 18), .int v1, .int v2, .int v3] t none t' := by
  refine tmet (ρ := (fun _ : Unit => (none : Option Value))) (av := [.ref (Z.2.2.2 18), .int v1, .int v2, .int v3]) hj (by decide +kernel) (Nat.le_of_ble_eq_true rfl) (lv_args_cat (List.forall_mem_cons.mpr ⟨rfl, List.forall_mem_cons.mpr ⟨rfl, List.forall_mem_cons.mpr ⟨rfl, List.forall_mem_cons.mpr ⟨rfl, fun _ h => absurd h List.not_mem_nil⟩⟩⟩⟩)) ?_
  intro X hln hC hnL hrt
  subst hln
  have hG := hC.1
  show GF X (tM Z X 5 (fun _ : Unit => (none : Option Value))) _ t 0 [(0, .ref (Z.2.2.2 18)), (1, .int v1), (2, .int v2), (3, .int v3)] []
  unfold fX4_holds
  refine gf_iload_n hG dX4_holds_0 rfl rfl ?_
  refine gf_iconst hG (nI 2) dX4_holds_1 (by decide) ?_
  refine gf_irem hG dX4_holds_2 (by decide) ?_
  refine gf_if_ne hG (tgt := 14) dX4_holds_3 (by decide) ?_ ?_
  · refine gf_aload_n hG dX4_holds_6 rfl rfl ?_
    refine gf_iload_n hG dX4_holds_7 rfl rfl ?_
    refine tf_callV (f := fX4_comesBack v1 t) (As := [.int v1]) (rest := []) (n := 1) (d' := 2) (st1 := fun _ => []) hC hnL (wX4_comesBack (gLn X) Z hC.2.2.1 v1 t) dX4_holds_8 (lw_V q1522 q1524 qs57 q78 q1525) (by decide +kernel) rfl (by decide) (by decide) (Nat.le_of_ble_eq_true rfl) (fun _ => rfl) (fun r1 t2 => ?_)
    refine gf_goto hG (tgt := 83) dX4_holds_11 (by decide) ?_
    exact tf_vret hC hrt rfl dX4_holds_83
  · refine gf_aload_n hG dX4_holds_14 rfl rfl ?_
    refine gf_iload_n hG dX4_holds_15 rfl rfl ?_
    refine gf_bipush hG (nI 38) dX4_holds_16 (by decide) ?_
    refine tf_callV (f := fX4_at v1 (nI 38) t) (As := [.int v1, .int (nI 38)]) (rest := []) (n := 2) (d' := 1) (st1 := fun r3 => [.int r3]) hC hnL (wX4_at (gLn X) Z hC.2.2.1 v1 (nI 38) t) dX4_holds_18 (lw_V q1376 q1378 qs33 q78 q1379) (by decide +kernel) rfl (by decide) (by decide) (Nat.le_of_ble_eq_true rfl) (fun _ => rfl) (fun r3 t4 => ?_)
    refine gf_bipush hG (nI 6) dX4_holds_21 (by decide) ?_
    refine gf_icmp_ne hG (tgt := 35) dX4_holds_23 (by decide) ?_ ?_
    · refine gf_aload_n hG dX4_holds_26 rfl rfl ?_
      refine gf_iload_n hG dX4_holds_27 rfl rfl ?_
      refine gf_iconst hG (nI 3) dX4_holds_28 (by decide) ?_
      refine tf_callV (f := fX4_fails v1 (nI 3) t4) (As := [.int v1, .int (nI 3)]) (rest := []) (n := 2) (d' := 41) (st1 := fun _ => []) hC hnL (wX4_fails (gLn X) Z hC.2.2.1 v1 (nI 3) t4) dX4_holds_29 (lw_V q1510 q1512 qs54 q78 q1513) (by decide +kernel) rfl (by decide) (by decide) (Nat.le_of_ble_eq_true rfl) (fun _ => rfl) (fun r5 t6 => ?_)
      refine gf_goto hG (tgt := 83) dX4_holds_32 (by decide) ?_
      exact tf_vret hC hrt rfl dX4_holds_83
    · refine gf_aload_n hG dX4_holds_35 rfl rfl ?_
      refine gf_iload_n hG dX4_holds_36 rfl rfl ?_
      refine gf_bipush hG (nI 38) dX4_holds_37 (by decide) ?_
      refine tf_callV (f := fX4_at v1 (nI 38) t4) (As := [.int v1, .int (nI 38)]) (rest := []) (n := 2) (d' := 1) (st1 := fun r7 => [.int r7]) hC hnL (wX4_at (gLn X) Z hC.2.2.1 v1 (nI 38) t4) dX4_holds_39 (lw_V q1376 q1378 qs33 q78 q1379) (by decide +kernel) rfl (by decide) (by decide) (Nat.le_of_ble_eq_true rfl) (fun _ => rfl) (fun r7 t8 => ?_)
      refine gf_istore hG dX4_holds_42 (Nat.le_of_ble_eq_true rfl) (lv' := [(0, _), (1, _), (2, _), (3, _), (4, _)]) rfl ?_
      refine gf_aload_n hG dX4_holds_44 rfl rfl ?_
      refine gf_iload_n hG dX4_holds_45 rfl rfl ?_
      refine gf_bipush hG (nI 39) dX4_holds_46 (by decide) ?_
      refine gf_iconst hG (nI 2) dX4_holds_48 (by decide) ?_
      refine gf_iload hG dX4_holds_49 rfl ?_
      refine gf_imul hG dX4_holds_51 ?_
      refine gf_iadd hG dX4_holds_52 ?_
      refine gf_iload_n hG dX4_holds_53 rfl rfl ?_
      refine tf_callV (f := fX4_sets v1 ((nI 39) + ((nI 2) * r7)) v2 t8) (As := [.int v1, .int ((nI 39) + ((nI 2) * r7)), .int v2]) (rest := []) (n := 3) (d' := 1) (st1 := fun _ => []) hC hnL (wX4_sets (gLn X) Z hC.2.2.1 v1 ((nI 39) + ((nI 2) * r7)) v2 t8) dX4_holds_54 (lw_V q1380 q1382 qs34 q78 q1383) (by decide +kernel) rfl (by decide) (by decide) (Nat.le_of_ble_eq_true rfl) (fun _ => rfl) (fun r9 t10 => ?_)
      refine gf_aload_n hG dX4_holds_57 rfl rfl ?_
      refine gf_iload_n hG dX4_holds_58 rfl rfl ?_
      refine gf_bipush hG (nI 39) dX4_holds_59 (by decide) ?_
      refine gf_iconst hG (nI 2) dX4_holds_61 (by decide) ?_
      refine gf_iload hG dX4_holds_62 rfl ?_
      refine gf_imul hG dX4_holds_64 ?_
      refine gf_iadd hG dX4_holds_65 ?_
      refine gf_iconst hG (nI 1) dX4_holds_66 (by decide) ?_
      refine gf_iadd hG dX4_holds_67 ?_
      refine gf_iload_n hG dX4_holds_68 rfl rfl ?_
      refine tf_callV (f := fX4_sets v1 (((nI 39) + ((nI 2) * r7)) + (nI 1)) v3 t10) (As := [.int v1, .int (((nI 39) + ((nI 2) * r7)) + (nI 1)), .int v3]) (rest := []) (n := 3) (d' := 1) (st1 := fun _ => []) hC hnL (wX4_sets (gLn X) Z hC.2.2.1 v1 (((nI 39) + ((nI 2) * r7)) + (nI 1)) v3 t10) dX4_holds_69 (lw_V q1380 q1382 qs34 q78 q1383) (by decide +kernel) rfl (by decide) (by decide) (Nat.le_of_ble_eq_true rfl) (fun _ => rfl) (fun r11 t12 => ?_)
      refine gf_aload_n hG dX4_holds_72 rfl rfl ?_
      refine gf_iload_n hG dX4_holds_73 rfl rfl ?_
      refine gf_bipush hG (nI 38) dX4_holds_74 (by decide) ?_
      refine gf_iload hG dX4_holds_76 rfl ?_
      refine gf_iconst hG (nI 1) dX4_holds_78 (by decide) ?_
      refine gf_iadd hG dX4_holds_79 ?_
      refine tf_callV (f := fX4_sets v1 (nI 38) (r7 + (nI 1)) t12) (As := [.int v1, .int (nI 38), .int (r7 + (nI 1))]) (rest := []) (n := 3) (d' := 1) (st1 := fun _ => []) hC hnL (wX4_sets (gLn X) Z hC.2.2.1 v1 (nI 38) (r7 + (nI 1)) t12) dX4_holds_80 (lw_V q1380 q1382 qs34 q78 q1383) (by decide +kernel) rfl (by decide) (by decide) (Nat.le_of_ble_eq_true rfl) (fun _ => rfl) (fun r13 t14 => ?_)
      exact tf_vret hC hrt rfl dX4_holds_83
