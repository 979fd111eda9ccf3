/-! the component: walks, by program (gen/cgen.py) -/
def fX0_timer (v0 : Nat) (v1 : Int32) (v2 : Int32) (t : cS) : Option (Int32 × cS) :=
  if v1 < 0 then
    (some ((-1 : Int32), t))
  else
    ob (fX0_within v2 (nI 0) (nI 2) t) (fun r1 s2 =>
    if r1 = 0 then
      (some ((-1 : Int32), s2))
    else
      gd (cK s2 v0 = 1) (
      letv (cR s2 1 v0) (fun x3 =>
      rv x3 (fun a4 =>
      gd (cK s2 a4 = 2) (
      letv (cR s2 12 a4) (fun x5 =>
      rv x5 (fun a6 =>
      gd (cK s2 a6 = 3) (
      ob (fX2_at a6 v1 s2) (fun r7 s8 =>
      onul r7 (
        (some ((-2 : Int32), s8))
      ) (fun a9 =>
        gd (cK s8 a9 = 13) (
        if v2 = 0 then
          gd (cK s8 a9 = 13) (
          letv (cI s8 59 a9) (fun x10 =>
          (some (x10, s8))
          )
          )
        else
          if v2 = (nI 1) then
            gd (cK s8 a9 = 13) (
            letv (cI s8 60 a9) (fun x11 =>
            (some (x11, s8))
            )
            )
          else
            gd (cK s8 a9 = 13) (
            letv (cI s8 61 a9) (fun x12 =>
            (some (((x12 + (nI 100))), s8))
            )
            )
        )
      )
      )
      )
      )
      )
      )
      )
      )
      )
    )
theorem mfX0_timer (v0 : Nat) (v1 : Int32) (v2 : Int32) (t : cS) : MO t (fX0_timer v0 v1 v2 t) := by
  unfold fX0_timer
  refine mo_ite ?_ ?_
  · exact mo_some
  · refine mo_ob (by apply mfX0_within) (fun _ _ => ?_)
    refine mo_ite ?_ ?_
    · exact mo_some
    · refine mo_gd ?_
      refine mo_letv (fun _ => ?_)
      refine mo_rv (fun _ => ?_)
      refine mo_gd ?_
      refine mo_letv (fun _ => ?_)
      refine mo_rv (fun _ => ?_)
      refine mo_gd ?_
      refine mo_ob (by apply mfX2_at) (fun _ _ => ?_)
      refine mo_onul ?_ (fun _ => ?_)
      · exact mo_some
      · refine mo_gd ?_
        refine mo_ite ?_ ?_
        · refine mo_gd ?_
          refine mo_letv (fun _ => ?_)
          exact mo_some
        · refine mo_ite ?_ ?_
          · refine mo_gd ?_
            refine mo_letv (fun _ => ?_)
            exact mo_some
          · refine mo_gd ?_
            refine mo_letv (fun _ => ?_)
            exact mo_some
set_option maxHeartbeats 4000000 in
theorem wX0_timer (l : Launch) (Y : cY) (hl : l.stackTraces = false) (hY : ∀ q, q < Y.2.2.2.2.size → ¬ Y.2.2.2.1 q) (v0 : Nat) (v1 : Int32) (v2 : Int32) (t : cS) : cFn l Y yX0_timer (ws_ yX0_timer cX0_timer 4 (some .int)) 4 [.ref v0, .int v1, .int v2] t (fX0_timer v0 v1 v2 t) rI := by
  refine cmet (av := [.ref v0, .int v1, .int v2]) (mfX0_timer v0 v1 v2 t) hl hY (by decide +kernel) (lg_le (List.forall_mem_cons.mpr ⟨rfl, List.forall_mem_cons.mpr ⟨rfl, List.forall_mem_cons.mpr ⟨rfl, fun _ h => absurd h List.not_mem_nil⟩⟩⟩) (Nat.le_of_ble_eq_true rfl)) (lv_args_cat (List.forall_mem_cons.mpr ⟨rfl, List.forall_mem_cons.mpr ⟨rfl, List.forall_mem_cons.mpr ⟨rfl, fun _ h => absurd h List.not_mem_nil⟩⟩⟩)) ?_
  intro X ad0 hln hC hnL hrt hnm hT hmd
  subst hln
  have hG := hC.1
  rw [lv_args_s (List.forall_mem_cons.mpr ⟨rfl, List.forall_mem_cons.mpr ⟨rfl, List.forall_mem_cons.mpr ⟨rfl, fun _ h => absurd h List.not_mem_nil⟩⟩⟩)]
  show GC X Y (cM Y X 4 t ad0 rI) _ t 0 [(0, .ref v0), (1, .int v1), (2, .int v2)] []
  unfold fX0_timer
  refine gc_iload_n hG dX0_timer_0 rfl rfl ?_
  refine gc_if_lt hG (tgt := 13) dX0_timer_1 (by decide) ?_ ?_
  · refine gc_iconst hG (-1 : Int32) dX0_timer_13 (by decide) ?_
    exact gc_iret hC hrt rfl rfl dX0_timer_14
  · refine gc_iload_n hG dX0_timer_4 rfl rfl ?_
    refine gc_iconst hG (nI 0) dX0_timer_5 (by decide) ?_
    refine gc_iconst hG (nI 2) dX0_timer_6 (by decide) ?_
    refine gc_callS (f := fX0_within v2 (nI 0) (nI 2) t) (As := [.int v2, .int (nI 0), .int (nI 2)]) (rest := []) (n := 3) (d' := 1) hC hnL (wX0_within (gLn X) Y hl hY v2 (nI 0) (nI 2) t) dX0_timer_7 q370 q250 q74 q251 ⟨by decide +kernel, by decide +kernel⟩ rfl (by decide) (by decide) (Nat.le_of_ble_eq_true rfl) (kn_I (fun r1 s2 => ?_)) kx_I
    refine gc_if_ne hG (tgt := 15) dX0_timer_10 (by decide) ?_ ?_
    · refine gc_iconst hG (-1 : Int32) dX0_timer_13 (by decide) ?_
      exact gc_iret hC hrt rfl rfl dX0_timer_14
    · refine gc_aload_n hG (v := .ref v0) (refV_a _) dX0_timer_15 rfl rfl ?_
      refine gc_gd (fun hk => ?_)
      refine gc_get hC (ci := 0) (j := 0) (v := vr (cR s2 1 v0)) hk dX0_timer_16 rfl (by decide) in_X0 q224 (fun _ h => h) rfl ?_
      refine gc_letr (fun x3 h_ => ?_)
      refine gc_rv (fun a4 h_ => ?_)
      subst h_
      refine gc_gd (fun hk => ?_)
      refine gc_getN hC (ci := 1) (j := 6) (v := vr (cR s2 12 a4)) hk dX0_timer_19 rfl (by decide) in_X1 q175 (fun _ h => h) rfl ?_
      refine gc_letr (fun x5 h_ => ?_)
      refine gc_iload_n hG dX0_timer_22 rfl rfl ?_
      refine gc_rv (fun a6 h_ => ?_)
      subst h_
      refine gc_gd (fun hk => ?_)
      refine gc_callV (f := fX2_at a6 v1 s2) (As := [.int v1]) (rest := []) (n := 1) (d' := 3) (b := a6) hC hnL (wX2_at (gLn X) Y hl hY a6 v1 s2) hk (ci := 2) rfl dX0_timer_23 q584 q585 q586 q76 q587 ⟨by decide +kernel, by decide +kernel⟩ rfl (by decide) (by decide) (Nat.le_of_ble_eq_true rfl) (kn_R (fun r7 s8 => ?_)) kx_R
      refine gc_onul (x := r7) (fun h_ => ?_) (fun a9 h_ => ?_)
      · subst h_
        refine gc_castN hG dX0_timer_26 ?_
        refine gc_astore_n hG (Or.inl rfl) dX0_timer_29 rfl (Nat.le_of_ble_eq_true rfl) (lv' := [(0, _), (1, _), (2, _), (3, _)]) rfl ?_
        refine gc_aload_n hG (v := .null) (Or.inl rfl) dX0_timer_30 rfl rfl ?_
        refine gc_ifnonnullN hG (tgt := 37) dX0_timer_31 (by decide) ?_
        refine gc_bipush hG (-2 : Int32) dX0_timer_34 (by decide) ?_
        exact gc_iret hC hrt rfl rfl dX0_timer_36
      · subst h_
        refine gc_gd (fun hk => ?_)
        refine gc_castE hC hk (ci := 12) rfl q621 dX0_timer_26 ?_
        refine gc_astore_n hG (refV_a _) dX0_timer_29 rfl (Nat.le_of_ble_eq_true rfl) (lv' := [(0, _), (1, _), (2, _), (3, _)]) rfl ?_
        refine gc_aload_n hG (v := .ref a9) (refV_a _) dX0_timer_30 rfl rfl ?_
        refine gc_ifnonnullY hG (tgt := 37) dX0_timer_31 (by decide) ?_
        refine gc_iload_n hG dX0_timer_37 rfl rfl ?_
        refine gc_if_ne hG (tgt := 48) dX0_timer_38 (by decide) ?_ ?_
        · refine gc_aload_n hG (v := .ref a9) (refV_a _) dX0_timer_41 rfl rfl ?_
          refine gc_gd (fun hk => ?_)
          refine gc_getN hC (ci := 12) (j := 0) (v := .int (cI s8 59 a9)) hk dX0_timer_42 rfl (by decide) in_X15 q900 (fun _ h => h) rfl ?_
          refine gc_letv (fun x10 h_ => ?_)
          refine gc_goto hG (tgt := 67) dX0_timer_45 (by decide) ?_
          exact gc_iret hC hrt rfl rfl dX0_timer_67
        · refine gc_iload_n hG dX0_timer_48 rfl rfl ?_
          refine gc_iconst hG (nI 1) dX0_timer_49 (by decide) ?_
          refine gc_icmp_ne hG (tgt := 60) dX0_timer_50 (by decide) ?_ ?_
          · refine gc_aload_n hG (v := .ref a9) (refV_a _) dX0_timer_53 rfl rfl ?_
            refine gc_gd (fun hk => ?_)
            refine gc_getN hC (ci := 12) (j := 1) (v := .int (cI s8 60 a9)) hk dX0_timer_54 rfl (by decide) in_X15 q902 (fun _ h => h) rfl ?_
            refine gc_letv (fun x11 h_ => ?_)
            refine gc_goto hG (tgt := 67) dX0_timer_57 (by decide) ?_
            exact gc_iret hC hrt rfl rfl dX0_timer_67
          · refine gc_aload_n hG (v := .ref a9) (refV_a _) dX0_timer_60 rfl rfl ?_
            refine gc_gd (fun hk => ?_)
            refine gc_getN hC (ci := 12) (j := 2) (v := .int (cI s8 61 a9)) hk dX0_timer_61 rfl (by decide) in_X15 q905 (fun _ h => h) rfl ?_
            refine gc_letv (fun x12 h_ => ?_)
            refine gc_bipush hG (nI 100) dX0_timer_64 (by decide) ?_
            refine gc_iadd hG dX0_timer_66 ?_
            exact gc_iret hC hrt rfl rfl dX0_timer_67
def fJ5_bitCount (v0 : Int32) (t : cS) : Option (Int32 × cS) :=
  letv ((v0 - ((iushr32 v0 (nI 1)) &&& (nI 1431655765)))) (fun y1 =>
  letv (((y1 &&& (nI 858993459)) + ((iushr32 y1 (nI 2)) &&& (nI 858993459)))) (fun y2 =>
  letv (((y2 + (iushr32 y2 (nI 4))) &&& (nI 252645135))) (fun y3 =>
  letv ((y3 + (iushr32 y3 (nI 8)))) (fun y4 =>
  letv ((y4 + (iushr32 y4 (nI 16)))) (fun y5 =>
  (some (((y5 &&& (nI 63))), t))
  )
  )
  )
  )
  )
theorem mfJ5_bitCount (v0 : Int32) (t : cS) : MO t (fJ5_bitCount v0 t) := by
  unfold fJ5_bitCount
  refine mo_letv (fun _ => ?_)
  refine mo_letv (fun _ => ?_)
  refine mo_letv (fun _ => ?_)
  refine mo_letv (fun _ => ?_)
  refine mo_letv (fun _ => ?_)
  exact mo_some
set_option maxHeartbeats 4000000 in
theorem wJ5_bitCount (l : Launch) (Y : cY) (hl : l.stackTraces = false) (hY : ∀ q, q < Y.2.2.2.2.size → ¬ Y.2.2.2.1 q) (v0 : Int32) (t : cS) : cFn l Y yJ5_bitCount (ws_ yJ5_bitCount cJ5_bitCount 1 (some .int)) 1 [.int v0] t (fJ5_bitCount v0 t) rI := by
  refine cmet (av := [.int v0]) (mfJ5_bitCount v0 t) hl hY (by decide +kernel) (lg_le (List.forall_mem_cons.mpr ⟨rfl, fun _ h => absurd h List.not_mem_nil⟩) (Nat.le_of_ble_eq_true rfl)) (lv_args_cat (List.forall_mem_cons.mpr ⟨rfl, fun _ h => absurd h List.not_mem_nil⟩)) ?_
  intro X ad0 hln hC hnL hrt hnm hT hmd
  subst hln
  have hG := hC.1
  rw [lv_args_s (List.forall_mem_cons.mpr ⟨rfl, fun _ h => absurd h List.not_mem_nil⟩)]
  show GC X Y (cM Y X 1 t ad0 rI) _ t 0 [(0, .int v0)] []
  unfold fJ5_bitCount
  refine gc_iload_n hG dJ5_bitCount_0 rfl rfl ?_
  refine gc_iload_n hG dJ5_bitCount_1 rfl rfl ?_
  refine gc_iconst hG (nI 1) dJ5_bitCount_2 (by decide) ?_
  refine gc_iushr hG dJ5_bitCount_3 ?_
  refine gc_ldcw hG (nI 1431655765) dJ5_bitCount_4 q633 ?_
  refine gc_iand hG dJ5_bitCount_7 ?_
  refine gc_isub hG dJ5_bitCount_8 ?_
  refine gc_letv (fun y1 hy1 => ?_)
  refine gc_istore_n hG dJ5_bitCount_9 rfl (Nat.le_of_ble_eq_true rfl) (lv' := [(0, _)]) rfl ?_
  refine gc_iload_n hG dJ5_bitCount_10 rfl rfl ?_
  refine gc_ldcw hG (nI 858993459) dJ5_bitCount_11 q634 ?_
  refine gc_iand hG dJ5_bitCount_14 ?_
  refine gc_iload_n hG dJ5_bitCount_15 rfl rfl ?_
  refine gc_iconst hG (nI 2) dJ5_bitCount_16 (by decide) ?_
  refine gc_iushr hG dJ5_bitCount_17 ?_
  refine gc_ldcw hG (nI 858993459) dJ5_bitCount_18 q634 ?_
  refine gc_iand hG dJ5_bitCount_21 ?_
  refine gc_iadd hG dJ5_bitCount_22 ?_
  refine gc_letv (fun y2 hy2 => ?_)
  refine gc_istore_n hG dJ5_bitCount_23 rfl (Nat.le_of_ble_eq_true rfl) (lv' := [(0, _)]) rfl ?_
  refine gc_iload_n hG dJ5_bitCount_24 rfl rfl ?_
  refine gc_iload_n hG dJ5_bitCount_25 rfl rfl ?_
  refine gc_iconst hG (nI 4) dJ5_bitCount_26 (by decide) ?_
  refine gc_iushr hG dJ5_bitCount_27 ?_
  refine gc_iadd hG dJ5_bitCount_28 ?_
  refine gc_ldcw hG (nI 252645135) dJ5_bitCount_29 q635 ?_
  refine gc_iand hG dJ5_bitCount_32 ?_
  refine gc_letv (fun y3 hy3 => ?_)
  refine gc_istore_n hG dJ5_bitCount_33 rfl (Nat.le_of_ble_eq_true rfl) (lv' := [(0, _)]) rfl ?_
  refine gc_iload_n hG dJ5_bitCount_34 rfl rfl ?_
  refine gc_iload_n hG dJ5_bitCount_35 rfl rfl ?_
  refine gc_bipush hG (nI 8) dJ5_bitCount_36 (by decide) ?_
  refine gc_iushr hG dJ5_bitCount_38 ?_
  refine gc_iadd hG dJ5_bitCount_39 ?_
  refine gc_letv (fun y4 hy4 => ?_)
  refine gc_istore_n hG dJ5_bitCount_40 rfl (Nat.le_of_ble_eq_true rfl) (lv' := [(0, _)]) rfl ?_
  refine gc_iload_n hG dJ5_bitCount_41 rfl rfl ?_
  refine gc_iload_n hG dJ5_bitCount_42 rfl rfl ?_
  refine gc_bipush hG (nI 16) dJ5_bitCount_43 (by decide) ?_
  refine gc_iushr hG dJ5_bitCount_45 ?_
  refine gc_iadd hG dJ5_bitCount_46 ?_
  refine gc_letv (fun y5 hy5 => ?_)
  refine gc_istore_n hG dJ5_bitCount_47 rfl (Nat.le_of_ble_eq_true rfl) (lv' := [(0, _)]) rfl ?_
  refine gc_iload_n hG dJ5_bitCount_48 rfl rfl ?_
  refine gc_bipush hG (nI 63) dJ5_bitCount_49 (by decide) ?_
  refine gc_iand hG dJ5_bitCount_51 ?_
  exact gc_iret hC hrt rfl rfl dJ5_bitCount_52
def fX1_liveOnes_L4 (v0 : Nat) (kx : Int32 → cS → Option (Int32 × cS)) : Nat → Int32 → Int32 → cS → Option (Int32 × cS)
  | 0, _, _, _ => none
  | k + 1, v1, v2, t =>
    gd (cK t v0 = 2) (
    letv (cI t 7 v0) (fun x1 =>
    if v2 < x1 then
      gd (cK t v0 = 2) (
      letv (cR t 6 v0) (fun x2 =>
      rv x2 (fun a3 =>
      gd (cK t a3 = 23 ∧ cIn t a3 v2) (
      letv (cR t (er (v2).toNatClampNeg) a3) (fun x4 =>
      rv x4 (fun a5 =>
      gd (cK t a5 = 5) (
      letv (cI t 33 a5) (fun x6 =>
      jn (fun (x7 : Int32) (t8 : cS) =>
        letv ((v1 ||| x7)) (fun y10 =>
        letv (v2 + (nI 1)) (fun y11 =>
        fX1_liveOnes_L4 v0 kx k y10 y11 t8
        )
        )
        ) (fun (j9 : Int32 → cS → Option (Int32 × cS)) =>
        if x6 = 0 then
          j9 (nI 0) t
        else
          j9 (ishl32 (nI 1) v2) t
        )
      )
      )
      )
      )
      )
      )
      )
      )
    else
      kx v1 t
    )
    )
theorem mfX1_liveOnes_L4 (v0 : Nat) (kx : Int32 → cS → Option (Int32 × cS)) (hkx : ∀ (v1 : Int32) (t : cS), MO t (kx v1 t)) : ∀ (k : Nat) (v1 : Int32) (v2 : Int32) (t : cS), MO t (fX1_liveOnes_L4 v0 kx k v1 v2 t) := by
  intro k
  induction k with
  | zero => intro v1 v2 t; exact mo_none
  | succ k ih =>
    intro v1 v2 t
    rw [fX1_liveOnes_L4]
    refine mo_gd ?_
    refine mo_letv (fun _ => ?_)
    refine mo_ite ?_ ?_
    · refine mo_gd ?_
      refine mo_letv (fun _ => ?_)
      refine mo_rv (fun _ => ?_)
      refine mo_gd ?_
      refine mo_letv (fun _ => ?_)
      refine mo_rv (fun _ => ?_)
      refine mo_gd ?_
      refine mo_letv (fun _ => ?_)
      refine mo_jn (fun j_ => ∀ ( x7 : Int32 ) ( t8 : cS ), MO t8 (j_ x7 t8)) (fun x7 t8 => ?_) (fun j9 hj9 => ?_)
      · refine mo_letv (fun _ => ?_)
        refine mo_letv (fun _ => ?_)
        exact ih _ _ _
      · refine mo_ite ?_ ?_
        · exact hj9 _ _
        · exact hj9 _ _
    · exact hkx _ _
set_option maxHeartbeats 4000000 in
theorem gfX1_liveOnes_L4 {X : gCx} {Y : cY} {s0 : cS} {ad0 : Nat → Nat} (hC : cOk X Y RX1 cX1_liveOnes 1) (hl : (gLn X).stackTraces = false) (hY : ∀ q, q < Y.2.2.2.2.size → ¬ Y.2.2.2.1 q) (hnL : gLoc X = 3) (hrt : gRet X = (some .int)) (hnm : X.2.2.2.2.2.2.2.2.1.name = "liveOnes") (hT : gTab X = []) (hmd : (gSt X).methodNamed? yX1_liveOnes = some (gMe X)) (v0 : Nat) (kx : Int32 → cS → Option (Int32 × cS)) (hkx : ∀ (v1 : Int32) (t : cS), GC X Y (cM Y X 3 s0 ad0 rI) (kx v1 t) t 40 [(1, .int v1)] []) : ∀ (k : Nat) (v1 : Int32) (v2 : Int32) (t : cS), GC X Y (cM Y X 3 s0 ad0 rI) (fX1_liveOnes_L4 v0 kx k v1 v2 t) t 4 [(0, .ref v0), (1, .int v1), (2, .int v2)] [] := by
  have hG := hC.1
  intro k
  induction k with
  | zero => intro v1 v2 t; exact gc_none
  | succ k ih =>
    intro v1 v2 t
    rw [fX1_liveOnes_L4]
    refine gc_iload_n hG dX1_liveOnes_4 rfl rfl ?_
    refine gc_aload_n hG (v := .ref v0) (refV_a _) dX1_liveOnes_5 rfl rfl ?_
    refine gc_gd (fun hk => ?_)
    refine gc_get hC (ci := 1) (j := 1) (v := .int (cI t 7 v0)) hk dX1_liveOnes_6 rfl (by decide) in_X1 q162 (fun _ h => h) rfl ?_
    refine gc_letv (fun x1 h_ => ?_)
    refine gc_icmp_ge hG (tgt := 40) dX1_liveOnes_9 (by decide) ?_ ?_
    · refine gc_iload_n hG dX1_liveOnes_12 rfl rfl ?_
      refine gc_aload_n hG (v := .ref v0) (refV_a _) dX1_liveOnes_13 rfl rfl ?_
      refine gc_gd (fun hk => ?_)
      refine gc_get hC (ci := 1) (j := 0) (v := vr (cR t 6 v0)) hk dX1_liveOnes_14 rfl (by decide) in_X1 q158 (fun _ h => h) rfl ?_
      refine gc_letr (fun x2 h_ => ?_)
      refine gc_iload_n hG dX1_liveOnes_17 rfl rfl ?_
      refine gc_rv (fun a3 h_ => ?_)
      subst h_
      refine gc_gd (fun hk => ?_)
      refine gc_aald hC hk.1 (by decide) (by decide) (t0 := 3) rfl hk.2 dX1_liveOnes_18 ?_
      refine gc_letr (fun x4 h_ => ?_)
      refine gc_rv (fun a5 h_ => ?_)
      subst h_
      refine gc_gd (fun hk => ?_)
      refine gc_getN hC (ci := 4) (j := 7) (v := .int (cI t 33 a5)) hk dX1_liveOnes_19 rfl (by decide) in_X5 q300 (fun _ h => h) rfl ?_
      refine gc_letv (fun x6 h_ => ?_)
      refine gc_jn (fun j_ => ∀ (x7 : Int32) (t8 : cS), GC X Y (cM Y X 3 s0 ad0 rI) (j_ x7 t8) t8 32 [(0, .ref v0), (2, .int v2)] [.int x7, .int v1]) (fun x7 t8 => ?_) (fun j9 hj9 => ?_)
      · refine gc_ior hG dX1_liveOnes_32 ?_
        refine gc_letv (fun y10 hy10 => ?_)
        refine gc_istore_n hG dX1_liveOnes_33 rfl (Nat.le_of_ble_eq_true rfl) (lv' := [(0, _), (1, _), (2, _)]) rfl ?_
        refine gc_letiinc hG (c := (nI 1)) (lv' := fun y11 => [(0, .ref v0), (1, .int y10), (2, .int y11)]) dX1_liveOnes_34 rfl (by decide) (Nat.le_of_ble_eq_true rfl) (fun _ => rfl) (fun y11 => ?_)
        refine gc_goto hG (tgt := 4) dX1_liveOnes_37 (by decide) ?_
        exact ih y10 y11 t8
      · refine gc_if_eq hG (tgt := 31) dX1_liveOnes_22 (by decide) ?_ ?_
        · refine gc_iconst hG (nI 0) dX1_liveOnes_31 (by decide) ?_
          refine gc_sub [0, 2] rfl ?_
          exact hj9 (nI 0) t
        · refine gc_iconst hG (nI 1) dX1_liveOnes_25 (by decide) ?_
          refine gc_iload_n hG dX1_liveOnes_26 rfl rfl ?_
          refine gc_ishl hG dX1_liveOnes_27 ?_
          refine gc_goto hG (tgt := 32) dX1_liveOnes_28 (by decide) ?_
          refine gc_sub [0, 2] rfl ?_
          exact hj9 (ishl32 (nI 1) v2) t
    · refine gc_sub [1] rfl ?_
      exact hkx v1 t
def fX1_liveOnes (v0 : Nat) (t : cS) : Option (Int32 × cS) :=
  fX1_liveOnes_L4 v0 (fun (v1_12 : Int32) (t13 : cS) =>
    (some (v1_12, t13))
    ) FU (nI 0) (nI 0) t
theorem mfX1_liveOnes (v0 : Nat) (t : cS) : MO t (fX1_liveOnes v0 t) := by
  unfold fX1_liveOnes
  refine mfX1_liveOnes_L4 _ _ (fun _ _ => ?_) _ _ _ _
  exact mo_some
set_option maxHeartbeats 4000000 in
theorem wX1_liveOnes (l : Launch) (Y : cY) (hl : l.stackTraces = false) (hY : ∀ q, q < Y.2.2.2.2.size → ¬ Y.2.2.2.1 q) (v0 : Nat) (t : cS) : cFn l Y yX1_liveOnes (ws_ yX1_liveOnes cX1_liveOnes 3 (some .int)) 1 [.ref v0] t (fX1_liveOnes v0 t) rI := by
  refine cmet (av := [.ref v0]) (mfX1_liveOnes v0 t) hl hY (by decide +kernel) (lg_le (List.forall_mem_cons.mpr ⟨rfl, fun _ h => absurd h List.not_mem_nil⟩) (Nat.le_of_ble_eq_true rfl)) (lv_args_cat (List.forall_mem_cons.mpr ⟨rfl, fun _ h => absurd h List.not_mem_nil⟩)) ?_
  intro X ad0 hln hC hnL hrt hnm hT hmd
  subst hln
  have hG := hC.1
  rw [lv_args_s (List.forall_mem_cons.mpr ⟨rfl, fun _ h => absurd h List.not_mem_nil⟩)]
  show GC X Y (cM Y X 3 t ad0 rI) _ t 0 [(0, .ref v0)] []
  unfold fX1_liveOnes
  refine gc_iconst hG (nI 0) dX1_liveOnes_0 (by decide) ?_
  refine gc_istore_n hG dX1_liveOnes_1 rfl (Nat.le_of_ble_eq_true rfl) (lv' := [(0, _), (1, _)]) rfl ?_
  refine gc_iconst hG (nI 0) dX1_liveOnes_2 (by decide) ?_
  refine gc_istore_n hG dX1_liveOnes_3 rfl (Nat.le_of_ble_eq_true rfl) (lv' := [(0, _), (1, _), (2, _)]) rfl ?_
  refine gfX1_liveOnes_L4 (s0 := t) (ad0 := ad0) hC hl hY hnL hrt hnm hT hmd v0 _ (fun v1_12 t13 => ?_) FU (nI 0) (nI 0) t
  refine gc_iload_n hG dX1_liveOnes_40 rfl rfl ?_
  exact gc_iret hC hrt rfl rfl dX1_liveOnes_41
def fX10_init (v0 : Nat) (v1 : Int32) (t : cS) : Option (Unit × cS) :=
  ob (fX6_init v0 (-1 : Int32) t) (fun r1 s2 =>
  gd (cK s2 v0 = 9) (
  letv (sI s2 50 v0 v1) (fun s3 =>
  (some ((), s3))
  )
  )
  )
theorem mfX10_init (v0 : Nat) (v1 : Int32) (t : cS) : MO t (fX10_init v0 v1 t) := by
  unfold fX10_init
  refine mo_ob (by apply mfX6_init) (fun _ _ => ?_)
  refine mo_gd ?_
  refine mo_letS cMo_sI (fun _ => ?_)
  exact mo_some
set_option maxHeartbeats 4000000 in
theorem wX10_init (l : Launch) (Y : cY) (hl : l.stackTraces = false) (hY : ∀ q, q < Y.2.2.2.2.size → ¬ Y.2.2.2.1 q) (v0 : Nat) (v1 : Int32) (t : cS) : cFn l Y yX10_init (ws_ yX10_init cX10_init 2 none) 2 [.ref v0, .int v1] t (fX10_init v0 v1 t) rV := by
  refine cmet (av := [.ref v0, .int v1]) (mfX10_init v0 v1 t) hl hY (by decide +kernel) (lg_le (List.forall_mem_cons.mpr ⟨rfl, List.forall_mem_cons.mpr ⟨rfl, fun _ h => absurd h List.not_mem_nil⟩⟩) (Nat.le_of_ble_eq_true rfl)) (lv_args_cat (List.forall_mem_cons.mpr ⟨rfl, List.forall_mem_cons.mpr ⟨rfl, fun _ h => absurd h List.not_mem_nil⟩⟩)) ?_
  intro X ad0 hln hC hnL hrt hnm hT hmd
  subst hln
  have hG := hC.1
  rw [lv_args_s (List.forall_mem_cons.mpr ⟨rfl, List.forall_mem_cons.mpr ⟨rfl, fun _ h => absurd h List.not_mem_nil⟩⟩)]
  show GC X Y (cM Y X 2 t ad0 rV) _ t 0 [(0, .ref v0), (1, .int v1)] []
  unfold fX10_init
  refine gc_aload_n hG (v := .ref v0) (refV_a _) dX10_init_0 rfl rfl ?_
  refine gc_iconst hG (-1 : Int32) dX10_init_1 (by decide) ?_
  refine gc_callI (f := fX6_init v0 (-1 : Int32) t) (As := [.int (-1 : Int32)]) (rest := []) (n := 1) (d' := 1) (b := v0) hC hnL (wX6_init (gLn X) Y hl hY v0 (-1 : Int32) t) dX10_init_2 q678 q377 q80 q378 ⟨by decide +kernel, by decide +kernel⟩ rfl rfl (by decide) (by decide) (Nat.le_of_ble_eq_true rfl) (kn_V (fun r1 s2 => ?_)) kx_V
  refine gc_aload_n hG (v := .ref v0) (refV_a _) dX10_init_5 rfl rfl ?_
  refine gc_iload_n hG dX10_init_6 rfl rfl ?_
  refine gc_gd (fun hk => ?_)
  have pt := pt_I (s := s2) (f := 50) (a := v0) (x := v1) rfl
  refine gc_putF hC tyX10 tyX10_ok nmX10 hk dX10_init_7 (ci := 8) (j := 1) (Or.inl (by decide)) rfl (by decide) in_X10 q679 (fun _ h => h) rfl (by rw [hnm]; rfl) rfl (tyX10_ok 1 (by decide)) (fun _ => rfl) (fun _ => rfl) pt.1.1 pt.1.2.1 pt.1.2.2.1 pt.1.2.2.2 pt.2.1 pt.2.2.1 pt.2.2.2 ?_
  refine gc_letS (fun s3 => ?_)
  exact gc_vret hC hrt rfl dX10_init_10
def fX1_stopsBelow_L7 (rc_ : Nat → Option Nat → cS → Option (Unit × cS)) (v0 : Nat) (v1 : Option Nat) (kx : cS → Option (Unit × cS)) : Nat → Int32 → cS → Option (Unit × cS)
  | 0, _, _ => none
  | k + 1, v2, t =>
    if v2 < 0 then
      kx t
    else
      gd (cK t v0 = 2) (
      letv (cR t 6 v0) (fun x3 =>
      rv x3 (fun a4 =>
      gd (cK t a4 = 23 ∧ cIn t a4 v2) (
      letv (cR t (er (v2).toNatClampNeg) a4) (fun x5 =>
      rv x5 (fun a6 =>
      gd (cK t a6 = 5) (
      letv (cI t 27 a6) (fun x7 =>
      rv v1 (fun a8 =>
      gd (cK t a8 = 5) (
      letv (cI t 26 a8) (fun x9 =>
      jn (fun  (t10 : cS) =>
        letv (v2 + (-1 : Int32)) (fun y12 =>
        fX1_stopsBelow_L7 rc_ v0 v1 kx k y12 t10
        )
        ) (fun (j11 : cS → Option (Unit × cS)) =>
        if x7 = x9 then
          gd (cK t v0 = 2) (
          letv (cR t 6 v0) (fun x13 =>
          rv x13 (fun a14 =>
          gd (cK t a14 = 23 ∧ cIn t a14 v2) (
          letv (cR t (er (v2).toNatClampNeg) a14) (fun x15 =>
          rv x15 (fun a16 =>
          gd (cK t a16 = 5) (
          letv (cI t 33 a16) (fun x17 =>
          if x17 = 0 then
            j11 t
          else
            gd (cK t v0 = 2) (
            letv (cR t 6 v0) (fun x18 =>
            rv x18 (fun a19 =>
            gd (cK t a19 = 23 ∧ cIn t a19 v2) (
            letv (cR t (er (v2).toNatClampNeg) a19) (fun x20 =>
            gd (cK t v0 = 2) (
            ob (rc_ v0 x20 t) (fun r21 s22 =>
            j11 s22
            )
            )
            )
            )
            )
            )
            )
          )
          )
          )
          )
          )
          )
          )
          )
        else
          j11 t
        )
      )
      )
      )
      )
      )
      )
      )
      )
      )
      )
      )
theorem mfX1_stopsBelow_L7 (rc_ : Nat → Option Nat → cS → Option (Unit × cS)) (hrec : ∀ (w : Nat) (a : Option Nat) (t : cS), MO t (rc_ w a t)) (v0 : Nat) (v1 : Option Nat) (kx : cS → Option (Unit × cS)) (hkx : ∀  (t : cS), MO t (kx t)) : ∀ (k : Nat) (v2 : Int32) (t : cS), MO t (fX1_stopsBelow_L7 rc_ v0 v1 kx k v2 t) := by
  intro k
  induction k with
  | zero => intro v2 t; exact mo_none
  | succ k ih =>
    intro v2 t
    rw [fX1_stopsBelow_L7]
    refine mo_ite ?_ ?_
    · exact hkx _
    · refine mo_gd ?_
      refine mo_letv (fun _ => ?_)
      refine mo_rv (fun _ => ?_)
      refine mo_gd ?_
      refine mo_letv (fun _ => ?_)
      refine mo_rv (fun _ => ?_)
      refine mo_gd ?_
      refine mo_letv (fun _ => ?_)
      refine mo_rv (fun _ => ?_)
      refine mo_gd ?_
      refine mo_letv (fun _ => ?_)
      refine mo_jn (fun j_ => ∀ ( t10 : cS ), MO t10 (j_ t10)) (fun t10 => ?_) (fun j11 hj11 => ?_)
      · refine mo_letv (fun _ => ?_)
        exact ih _ _
      · refine mo_ite ?_ ?_
        · refine mo_gd ?_
          refine mo_letv (fun _ => ?_)
          refine mo_rv (fun _ => ?_)
          refine mo_gd ?_
          refine mo_letv (fun _ => ?_)
          refine mo_rv (fun _ => ?_)
          refine mo_gd ?_
          refine mo_letv (fun _ => ?_)
          refine mo_ite ?_ ?_
          · exact hj11 _
          · refine mo_gd ?_
            refine mo_letv (fun _ => ?_)
            refine mo_rv (fun _ => ?_)
            refine mo_gd ?_
            refine mo_letv (fun _ => ?_)
            refine mo_gd ?_
            refine mo_ob (hrec _ _ _) (fun _ _ => ?_)
            exact hj11 _
        · exact hj11 _
set_option maxHeartbeats 4000000 in
theorem gfX1_stopsBelow_L7 {X : gCx} {Y : cY} {s0 : cS} {ad0 : Nat → Nat} {nr : Nat} {rc_ : Nat → Option Nat → cS → Option (Unit × cS)} (hC : cOk X Y RX1 cX1_stopsBelow (nr + 1)) (hl : (gLn X).stackTraces = false) (hY : ∀ q, q < Y.2.2.2.2.size → ¬ Y.2.2.2.1 q) (hnL : gLoc X = 3) (hrt : gRet X = none) (hnm : X.2.2.2.2.2.2.2.2.1.name = "stopsBelow") (hT : gTab X = []) (hmd : (gSt X).methodNamed? yX1_stopsBelow = some (gMe X)) (hd0 : 5 ≤ nr) (hrec : ∀ (w : Nat) (a : Option Nat) (t : cS), cFn (gLn X) Y yX1_stops (ws_ yX1_stops cX1_stops 3 none) nr [.ref w, vr a] t (rc_ w a t) rV) (v0 : Nat) (v1 : Option Nat) (kx : cS → Option (Unit × cS)) (hkx : ∀  (t : cS), GC X Y (cM Y X 3 s0 ad0 rV) (kx t) t 55 [] []) : ∀ (k : Nat) (v2 : Int32) (t : cS), GC X Y (cM Y X 3 s0 ad0 rV) (fX1_stopsBelow_L7 rc_ v0 v1 kx k v2 t) t 7 [(0, .ref v0), (1, vr v1), (2, .int v2)] [] := by
  have hG := hC.1
  intro k
  induction k with
  | zero => intro v2 t; exact gc_none
  | succ k ih =>
    intro v2 t
    rw [fX1_stopsBelow_L7]
    refine gc_iload_n hG dX1_stopsBelow_7 rfl rfl ?_
    refine gc_if_lt hG (tgt := 55) dX1_stopsBelow_8 (by decide) ?_ ?_
    · refine gc_sub [] rfl ?_
      exact hkx t
    · refine gc_aload_n hG (v := .ref v0) (refV_a _) dX1_stopsBelow_11 rfl rfl ?_
      refine gc_gd (fun hk => ?_)
      refine gc_get hC (ci := 1) (j := 0) (v := vr (cR t 6 v0)) hk dX1_stopsBelow_12 rfl (by decide) in_X1 q158 (fun _ h => h) rfl ?_
      refine gc_letr (fun x3 h_ => ?_)
      refine gc_iload_n hG dX1_stopsBelow_15 rfl rfl ?_
      refine gc_rv (fun a4 h_ => ?_)
      subst h_
      refine gc_gd (fun hk => ?_)
      refine gc_aald hC hk.1 (by decide) (by decide) (t0 := 3) rfl hk.2 dX1_stopsBelow_16 ?_
      refine gc_letr (fun x5 h_ => ?_)
      refine gc_rv (fun a6 h_ => ?_)
      subst h_
      refine gc_gd (fun hk => ?_)
      refine gc_getN hC (ci := 4) (j := 1) (v := .int (cI t 27 a6)) hk dX1_stopsBelow_17 rfl (by decide) in_X5 q287 (fun _ h => h) rfl ?_
      refine gc_letv (fun x7 h_ => ?_)
      refine gc_aload_n hG (v := vr v1) (refV_x _) dX1_stopsBelow_20 rfl rfl ?_
      refine gc_rv (fun a8 h_ => ?_)
      subst h_
      refine gc_gd (fun hk => ?_)
      refine gc_getN hC (ci := 4) (j := 0) (v := .int (cI t 26 a8)) hk dX1_stopsBelow_21 rfl (by decide) in_X5 q283 (fun _ h => h) rfl ?_
      refine gc_letv (fun x9 h_ => ?_)
      refine gc_jn (fun j_ => ∀  (t10 : cS), GC X Y (cM Y X 3 s0 ad0 rV) (j_ t10) t10 49 [(0, .ref v0), (1, .ref a8), (2, .int v2)] []) (fun t10 => ?_) (fun j11 hj11 => ?_)
      · refine gc_letiinc hG (c := (-1 : Int32)) (lv' := fun y12 => [(0, .ref v0), (1, .ref a8), (2, .int y12)]) dX1_stopsBelow_49 rfl (by decide) (Nat.le_of_ble_eq_true rfl) (fun _ => rfl) (fun y12 => ?_)
        refine gc_goto hG (tgt := 7) dX1_stopsBelow_52 (by decide) ?_
        exact ih y12 t10
      · refine gc_icmp_ne hG (tgt := 49) dX1_stopsBelow_24 (by decide) ?_ ?_
        · refine gc_aload_n hG (v := .ref v0) (refV_a _) dX1_stopsBelow_27 rfl rfl ?_
          refine gc_gd (fun hk => ?_)
          refine gc_get hC (ci := 1) (j := 0) (v := vr (cR t 6 v0)) hk dX1_stopsBelow_28 rfl (by decide) in_X1 q158 (fun _ h => h) rfl ?_
          refine gc_letr (fun x13 h_ => ?_)
          refine gc_iload_n hG dX1_stopsBelow_31 rfl rfl ?_
          refine gc_rv (fun a14 h_ => ?_)
          subst h_
          refine gc_gd (fun hk => ?_)
          refine gc_aald hC hk.1 (by decide) (by decide) (t0 := 3) rfl hk.2 dX1_stopsBelow_32 ?_
          refine gc_letr (fun x15 h_ => ?_)
          refine gc_rv (fun a16 h_ => ?_)
          subst h_
          refine gc_gd (fun hk => ?_)
          refine gc_getN hC (ci := 4) (j := 7) (v := .int (cI t 33 a16)) hk dX1_stopsBelow_33 rfl (by decide) in_X5 q300 (fun _ h => h) rfl ?_
          refine gc_letv (fun x17 h_ => ?_)
          refine gc_if_eq hG (tgt := 49) dX1_stopsBelow_36 (by decide) ?_ ?_
          · exact hj11 t
          · refine gc_aload_n hG (v := .ref v0) (refV_a _) dX1_stopsBelow_39 rfl rfl ?_
            refine gc_aload_n hG (v := .ref v0) (refV_a _) dX1_stopsBelow_40 rfl rfl ?_
            refine gc_gd (fun hk => ?_)
            refine gc_get hC (ci := 1) (j := 0) (v := vr (cR t 6 v0)) hk dX1_stopsBelow_41 rfl (by decide) in_X1 q158 (fun _ h => h) rfl ?_
            refine gc_letr (fun x18 h_ => ?_)
            refine gc_iload_n hG dX1_stopsBelow_44 rfl rfl ?_
            refine gc_rv (fun a19 h_ => ?_)
            subst h_
            refine gc_gd (fun hk => ?_)
            refine gc_aald hC hk.1 (by decide) (by decide) (t0 := 3) rfl hk.2 dX1_stopsBelow_45 ?_
            refine gc_letr (fun x20 h_ => ?_)
            refine gc_gd (fun hk => ?_)
            refine gc_callV (f := rc_ v0 x20 t) (As := [vr x20]) (rest := []) (n := 1) (d' := nr) (b := v0) hC hnL (hrec v0 x20 t) hk (ci := 1) rfl dX1_stopsBelow_46 q644 q637 q638 q75 q639 ⟨by decide +kernel, by decide +kernel⟩ rfl (by omega) (by decide) (Nat.le_of_ble_eq_true rfl) (kn_V (fun r21 s22 => ?_)) kx_V
            exact hj11 s22
        · exact hj11 t
def fX1_stopsBelow (rc_ : Nat → Option Nat → cS → Option (Unit × cS)) (v0 : Nat) (v1 : Option Nat) (t : cS) : Option (Unit × cS) :=
  gd (cK t v0 = 2) (
  letv (cI t 7 v0) (fun x1 =>
  letv ((x1 - (nI 1))) (fun y2 =>
  fX1_stopsBelow_L7 rc_ v0 v1 (fun  (t23 : cS) =>
    (some ((), t23))
    ) FU y2 t
  )
  )
  )
theorem mfX1_stopsBelow (rc_ : Nat → Option Nat → cS → Option (Unit × cS)) (hrec : ∀ (w : Nat) (a : Option Nat) (t : cS), MO t (rc_ w a t)) (v0 : Nat) (v1 : Option Nat) (t : cS) : MO t (fX1_stopsBelow rc_ v0 v1 t) := by
  unfold fX1_stopsBelow
  refine mo_gd ?_
  refine mo_letv (fun _ => ?_)
  refine mo_letv (fun _ => ?_)
  refine mfX1_stopsBelow_L7 (rc_ := rc_) hrec _ _ _ (fun _ => ?_) _ _ _
  exact mo_some
set_option maxHeartbeats 4000000 in
theorem wX1_stopsBelow (l : Launch) (Y : cY) (hl : l.stackTraces = false) (hY : ∀ q, q < Y.2.2.2.2.size → ¬ Y.2.2.2.1 q) (rc_ : Nat → Option Nat → cS → Option (Unit × cS)) (nr : Nat) (hd0 : 5 ≤ nr) (hrec : ∀ (w : Nat) (a : Option Nat) (t : cS), cFn l Y yX1_stops (ws_ yX1_stops cX1_stops 3 none) nr [.ref w, vr a] t (rc_ w a t) rV) (hmr : ∀ (w : Nat) (a : Option Nat) (t : cS), MO t (rc_ w a t)) (v0 : Nat) (v1 : Option Nat) (t : cS) : cFn l Y yX1_stopsBelow (ws_ yX1_stopsBelow cX1_stopsBelow 3 none) (nr + 1) [.ref v0, vr v1] t (fX1_stopsBelow rc_ v0 v1 t) rV := by
  refine cmet (av := [.ref v0, vr v1]) (mfX1_stopsBelow rc_ hmr v0 v1 t) hl hY (by decide +kernel) (lg_le (List.forall_mem_cons.mpr ⟨rfl, List.forall_mem_cons.mpr ⟨(cat_vr _), fun _ h => absurd h List.not_mem_nil⟩⟩) (Nat.le_of_ble_eq_true rfl)) (lv_args_cat (List.forall_mem_cons.mpr ⟨rfl, List.forall_mem_cons.mpr ⟨(cat_vr _), fun _ h => absurd h List.not_mem_nil⟩⟩)) ?_
  intro X ad0 hln hC hnL hrt hnm hT hmd
  subst hln
  have hG := hC.1
  rw [lv_args_s (List.forall_mem_cons.mpr ⟨rfl, List.forall_mem_cons.mpr ⟨(cat_vr _), fun _ h => absurd h List.not_mem_nil⟩⟩)]
  show GC X Y (cM Y X 3 t ad0 rV) _ t 0 [(0, .ref v0), (1, vr v1)] []
  unfold fX1_stopsBelow
  refine gc_aload_n hG (v := .ref v0) (refV_a _) dX1_stopsBelow_0 rfl rfl ?_
  refine gc_gd (fun hk => ?_)
  refine gc_get hC (ci := 1) (j := 1) (v := .int (cI t 7 v0)) hk dX1_stopsBelow_1 rfl (by decide) in_X1 q162 (fun _ h => h) rfl ?_
  refine gc_letv (fun x1 h_ => ?_)
  refine gc_iconst hG (nI 1) dX1_stopsBelow_4 (by decide) ?_
  refine gc_isub hG dX1_stopsBelow_5 ?_
  refine gc_letv (fun y2 hy2 => ?_)
  refine gc_istore_n hG dX1_stopsBelow_6 rfl (Nat.le_of_ble_eq_true rfl) (lv' := [(0, _), (1, _), (2, _)]) rfl ?_
  refine gfX1_stopsBelow_L7 (s0 := t) (ad0 := ad0) hC hl hY hnL hrt hnm hT hmd hd0 hrec v0 v1  _ (fun t23 => ?_) FU y2 t
  exact gc_vret hC hrt rfl dX1_stopsBelow_55
def fX1_lambda_timed_0 (v0 : Option Nat) (v1 : Option Nat) (t : cS) : Option (Int32 × cS) :=
  rv v1 (fun a1 =>
  gd (cK t a1 = 13) (
  letv (cI t 60 a1) (fun x2 =>
  rv v0 (fun a3 =>
  gd (cK t a3 = 13) (
  letv (cI t 60 a3) (fun x4 =>
  if x4 < x2 then
    (some ((nI 1), t))
  else
    (some ((nI 0), t))
  )
  )
  )
  )
  )
  )
theorem mfX1_lambda_timed_0 (v0 : Option Nat) (v1 : Option Nat) (t : cS) : MO t (fX1_lambda_timed_0 v0 v1 t) := by
  unfold fX1_lambda_timed_0
  refine mo_rv (fun _ => ?_)
  refine mo_gd ?_
  refine mo_letv (fun _ => ?_)
  refine mo_rv (fun _ => ?_)
  refine mo_gd ?_
  refine mo_letv (fun _ => ?_)
  refine mo_ite ?_ ?_
  · exact mo_some
  · exact mo_some
set_option maxHeartbeats 4000000 in
theorem wX1_lambda_timed_0 (l : Launch) (Y : cY) (hl : l.stackTraces = false) (hY : ∀ q, q < Y.2.2.2.2.size → ¬ Y.2.2.2.1 q) (v0 : Option Nat) (v1 : Option Nat) (t : cS) : cFn l Y yX1_lambda_timed_0 (ws_ yX1_lambda_timed_0 cX1_lambda_timed_0 2 (some .boolean)) 1 [vr v0, vr v1] t (fX1_lambda_timed_0 v0 v1 t) rI := by
  refine cmet (av := [vr v0, vr v1]) (mfX1_lambda_timed_0 v0 v1 t) hl hY (by decide +kernel) (lg_le (List.forall_mem_cons.mpr ⟨(cat_vr _), List.forall_mem_cons.mpr ⟨(cat_vr _), fun _ h => absurd h List.not_mem_nil⟩⟩) (Nat.le_of_ble_eq_true rfl)) (lv_args_cat (List.forall_mem_cons.mpr ⟨(cat_vr _), List.forall_mem_cons.mpr ⟨(cat_vr _), fun _ h => absurd h List.not_mem_nil⟩⟩)) ?_
  intro X ad0 hln hC hnL hrt hnm hT hmd
  subst hln
  have hG := hC.1
  rw [lv_args_s (List.forall_mem_cons.mpr ⟨(cat_vr _), List.forall_mem_cons.mpr ⟨(cat_vr _), fun _ h => absurd h List.not_mem_nil⟩⟩)]
  show GC X Y (cM Y X 2 t ad0 rI) _ t 0 [(0, vr v0), (1, vr v1)] []
  unfold fX1_lambda_timed_0
  refine gc_aload_n hG (v := vr v1) (refV_x _) dX1_lambda_timed_0_0 rfl rfl ?_
  refine gc_rv (fun a1 h_ => ?_)
  subst h_
  refine gc_gd (fun hk => ?_)
  refine gc_getN hC (ci := 12) (j := 1) (v := .int (cI t 60 a1)) hk dX1_lambda_timed_0_1 rfl (by decide) in_X15 q903 (fun _ h => h) rfl ?_
  refine gc_letv (fun x2 h_ => ?_)
  refine gc_aload_n hG (v := vr v0) (refV_x _) dX1_lambda_timed_0_4 rfl rfl ?_
  refine gc_rv (fun a3 h_ => ?_)
  subst h_
  refine gc_gd (fun hk => ?_)
  refine gc_getN hC (ci := 12) (j := 1) (v := .int (cI t 60 a3)) hk dX1_lambda_timed_0_5 rfl (by decide) in_X15 q903 (fun _ h => h) rfl ?_
  refine gc_letv (fun x4 h_ => ?_)
  refine gc_icmp_le hG (tgt := 15) dX1_lambda_timed_0_8 (by decide) ?_ ?_
  · refine gc_iconst hG (nI 1) dX1_lambda_timed_0_11 (by decide) ?_
    refine gc_goto hG (tgt := 16) dX1_lambda_timed_0_12 (by decide) ?_
    exact gc_iret hC hrt (by decide) rfl dX1_lambda_timed_0_16
  · refine gc_iconst hG (nI 0) dX1_lambda_timed_0_15 (by decide) ?_
    exact gc_iret hC hrt (by decide) rfl dX1_lambda_timed_0_16
def fX5_lambda_new_0 (v0 : Int32) (v1 : Option Nat) (t : cS) : Option (Int32 × cS) :=
  rv v1 (fun a1 =>
  gd (cK t a1 = 17) (
  ob (fJ5_intValue a1 t) (fun r2 s3 =>
  if r2 = v0 then
    (some ((nI 1), s3))
  else
    (some ((nI 0), s3))
  )
  )
  )
theorem mfX5_lambda_new_0 (v0 : Int32) (v1 : Option Nat) (t : cS) : MO t (fX5_lambda_new_0 v0 v1 t) := by
  unfold fX5_lambda_new_0
  refine mo_rv (fun _ => ?_)
  refine mo_gd ?_
  refine mo_ob (by apply mfJ5_intValue) (fun _ _ => ?_)
  refine mo_ite ?_ ?_
  · exact mo_some
  · exact mo_some
set_option maxHeartbeats 4000000 in
theorem wX5_lambda_new_0 (l : Launch) (Y : cY) (hl : l.stackTraces = false) (hY : ∀ q, q < Y.2.2.2.2.size → ¬ Y.2.2.2.1 q) (v0 : Int32) (v1 : Option Nat) (t : cS) : cFn l Y yX5_lambda_new_0 (ws_ yX5_lambda_new_0 cX5_lambda_new_0 2 (some .boolean)) 2 [.int v0, vr v1] t (fX5_lambda_new_0 v0 v1 t) rI := by
  refine cmet (av := [.int v0, vr v1]) (mfX5_lambda_new_0 v0 v1 t) hl hY (by decide +kernel) (lg_le (List.forall_mem_cons.mpr ⟨rfl, List.forall_mem_cons.mpr ⟨(cat_vr _), fun _ h => absurd h List.not_mem_nil⟩⟩) (Nat.le_of_ble_eq_true rfl)) (lv_args_cat (List.forall_mem_cons.mpr ⟨rfl, List.forall_mem_cons.mpr ⟨(cat_vr _), fun _ h => absurd h List.not_mem_nil⟩⟩)) ?_
  intro X ad0 hln hC hnL hrt hnm hT hmd
  subst hln
  have hG := hC.1
  rw [lv_args_s (List.forall_mem_cons.mpr ⟨rfl, List.forall_mem_cons.mpr ⟨(cat_vr _), fun _ h => absurd h List.not_mem_nil⟩⟩)]
  show GC X Y (cM Y X 2 t ad0 rI) _ t 0 [(0, .int v0), (1, vr v1)] []
  unfold fX5_lambda_new_0
  refine gc_aload_n hG (v := vr v1) (refV_x _) dX5_lambda_new_0_0 rfl rfl ?_
  refine gc_rv (fun a1 h_ => ?_)
  subst h_
  refine gc_gd (fun hk => ?_)
  refine gc_callV (f := fJ5_intValue a1 t) (As := []) (rest := []) (n := 0) (d' := 1) (b := a1) hC hnL (wJ5_intValue (gLn X) Y hl hY a1 t) hk (ci := 16) rfl dX5_lambda_new_0_1 q275 q276 q277 q89 q278 ⟨by decide +kernel, by decide +kernel⟩ rfl (by decide) (by decide) (Nat.le_of_ble_eq_true rfl) (kn_I (fun r2 s3 => ?_)) kx_I
  refine gc_iload_n hG dX5_lambda_new_0_4 rfl rfl ?_
  refine gc_icmp_ne hG (tgt := 12) dX5_lambda_new_0_5 (by decide) ?_ ?_
  · refine gc_iconst hG (nI 1) dX5_lambda_new_0_8 (by decide) ?_
    refine gc_goto hG (tgt := 13) dX5_lambda_new_0_9 (by decide) ?_
    exact gc_iret hC hrt (by decide) rfl dX5_lambda_new_0_13
  · refine gc_iconst hG (nI 0) dX5_lambda_new_0_12 (by decide) ?_
    exact gc_iret hC hrt (by decide) rfl dX5_lambda_new_0_13
def fX5_lambda_new_1 (v0 : Int32) (v1 : Option Nat) (t : cS) : Option (Int32 × cS) :=
  rv v1 (fun a1 =>
  gd (cK t a1 = 13) (
  letv (cI t 59 a1) (fun x2 =>
  if x2 = v0 then
    (some ((nI 1), t))
  else
    (some ((nI 0), t))
  )
  )
  )
theorem mfX5_lambda_new_1 (v0 : Int32) (v1 : Option Nat) (t : cS) : MO t (fX5_lambda_new_1 v0 v1 t) := by
  unfold fX5_lambda_new_1
  refine mo_rv (fun _ => ?_)
  refine mo_gd ?_
  refine mo_letv (fun _ => ?_)
  refine mo_ite ?_ ?_
  · exact mo_some
  · exact mo_some
set_option maxHeartbeats 4000000 in
theorem wX5_lambda_new_1 (l : Launch) (Y : cY) (hl : l.stackTraces = false) (hY : ∀ q, q < Y.2.2.2.2.size → ¬ Y.2.2.2.1 q) (v0 : Int32) (v1 : Option Nat) (t : cS) : cFn l Y yX5_lambda_new_1 (ws_ yX5_lambda_new_1 cX5_lambda_new_1 2 (some .boolean)) 1 [.int v0, vr v1] t (fX5_lambda_new_1 v0 v1 t) rI := by
  refine cmet (av := [.int v0, vr v1]) (mfX5_lambda_new_1 v0 v1 t) hl hY (by decide +kernel) (lg_le (List.forall_mem_cons.mpr ⟨rfl, List.forall_mem_cons.mpr ⟨(cat_vr _), fun _ h => absurd h List.not_mem_nil⟩⟩) (Nat.le_of_ble_eq_true rfl)) (lv_args_cat (List.forall_mem_cons.mpr ⟨rfl, List.forall_mem_cons.mpr ⟨(cat_vr _), fun _ h => absurd h List.not_mem_nil⟩⟩)) ?_
  intro X ad0 hln hC hnL hrt hnm hT hmd
  subst hln
  have hG := hC.1
  rw [lv_args_s (List.forall_mem_cons.mpr ⟨rfl, List.forall_mem_cons.mpr ⟨(cat_vr _), fun _ h => absurd h List.not_mem_nil⟩⟩)]
  show GC X Y (cM Y X 2 t ad0 rI) _ t 0 [(0, .int v0), (1, vr v1)] []
  unfold fX5_lambda_new_1
  refine gc_aload_n hG (v := vr v1) (refV_x _) dX5_lambda_new_1_0 rfl rfl ?_
  refine gc_rv (fun a1 h_ => ?_)
  subst h_
  refine gc_gd (fun hk => ?_)
  refine gc_getN hC (ci := 12) (j := 0) (v := .int (cI t 59 a1)) hk dX5_lambda_new_1_1 rfl (by decide) in_X15 q899 (fun _ h => h) rfl ?_
  refine gc_letv (fun x2 h_ => ?_)
  refine gc_iload_n hG dX5_lambda_new_1_4 rfl rfl ?_
  refine gc_icmp_ne hG (tgt := 12) dX5_lambda_new_1_5 (by decide) ?_ ?_
  · refine gc_iconst hG (nI 1) dX5_lambda_new_1_8 (by decide) ?_
    refine gc_goto hG (tgt := 13) dX5_lambda_new_1_9 (by decide) ?_
    exact gc_iret hC hrt (by decide) rfl dX5_lambda_new_1_13
  · refine gc_iconst hG (nI 0) dX5_lambda_new_1_12 (by decide) ?_
    exact gc_iret hC hrt (by decide) rfl dX5_lambda_new_1_13
def fD_is (v0 : Nat) (v1 : Option Nat) (t : cS) : Option (Int32 × cS) :=
  rv v1 (fun a1 =>
  if cK t v0 = 33 then gd (cK t a1 = 17) (zI (fX5_lambda_new_0 (cI t 900 v0) (some a1) t)) else
  if cK t v0 = 34 then gd (cK t a1 = 13) (zI (fX5_lambda_new_1 (cI t 900 v0) (some a1) t)) else
  gd (cK t v0 = 35) (gd (cK t a1 = 13) (zI (fX1_lambda_timed_0 (cR t 901 v0) (some a1) t))))
theorem mfD_is (v0 : Nat) (v1 : Option Nat) (t : cS) : MO t (fD_is v0 v1 t) := by
  unfold fD_is
  refine mo_rv (fun a1 => ?_)
  refine mo_ite (mo_gd (mo_zI (by apply mfX5_lambda_new_0))) ?_
  refine mo_ite (mo_gd (mo_zI (by apply mfX5_lambda_new_1))) ?_
  exact mo_gd (mo_gd (mo_zI (by apply mfX1_lambda_timed_0)))
set_option maxHeartbeats 4000000 in
theorem gD_is {α : Type} {X : gCx} {Y : cY} {M : cMd α} {t : cS} {pc d index count : Nat} {lv : List (Nat × Value)} {rest : List Value} {own : String} {cc : ByteArray} {K : Int32 → cS → Option (α × cS)} {v0 : Nat} {v1 : Option Nat} (hC : cOk X Y own cc d) (hnL : gLoc X = M.1) (hl : (gLn X).stackTraces = false) (hY : ∀ q, q < Y.2.2.2.2.size → ¬ Y.2.2.2.1 q) (hdg : decode cc pc = .ok (.invokeinterface index count, 5)) (w1 : Cond.methodLink own index ⟨"ActorTrees$Test", "is", "(Ljava/lang/Object;)Z"⟩ ∈ lw_all) (hd : 3 + 1 ≤ d) (hs8 : (rest.map fun v => v.category).sum ≤ 8) (kn : ∀ (r : Int32) (s1 : cS) (v : Option Value), rI r = .inl v → GC X Y M (K r s1) s1 (pc + 5) lv (v.toList ++ rest)) (kx : ∀ (r : Int32) (s1 : cS) (x : Nat), rI r = .inr x → GX X Y M (K r s1) s1 pc lv x) : GC X Y M (ob (fD_is v0 v1 t) K) t pc lv (vr v1 :: .ref v0 :: rest) := by
  rw [fD_is]
  refine gc_obrv (fun a1 h_ => ?_)
  subst h_
  refine gc_obif (fun hk => gc_obgd (fun hka => gc_lamB (x := ⟨"ActorTrees$Test", "is", "(Ljava/lang/Object;)Z"⟩) (y := yX5_lambda_new_0) (d' := 2) (v0 := (.int (cI t 900 v0))) (fc := 900) (cI := 16) (ds := "I") hC hnL (wX5_lambda_new_0 (gLn X) Y hl hY (cI t 900 v0) (some a1) t) (by decide) hk (by decide) rfl rfl hka rfl (List.mem_of_getElem? (i := 3) rfl) (by decide +kernel) ⟨rfl, rfl, by decide +kernel⟩ (by unfold mdC; decide +kernel) (by unfold mdT; decide +kernel) (by unfold mdF; decide +kernel) (by unfold mdK; decide +kernel) ⟨⟨rfl, rfl, by decide +kernel⟩, rfl⟩ (by decide +kernel) q1709 q273 q79 q274 ⟨⟨by decide +kernel, by decide +kernel⟩, by decide +kernel⟩ hdg w1 (by decide +kernel) (by omega) hs8 kn kx)) (fun _ => ?_)
  refine gc_obif (fun hk => gc_obgd (fun hka => gc_lamB (x := ⟨"ActorTrees$Test", "is", "(Ljava/lang/Object;)Z"⟩) (y := yX5_lambda_new_1) (d' := 1) (v0 := (.int (cI t 900 v0))) (fc := 900) (cI := 12) (ds := "I") hC hnL (wX5_lambda_new_1 (gLn X) Y hl hY (cI t 900 v0) (some a1) t) (by decide) hk (by decide) rfl rfl hka rfl (List.mem_of_getElem? (i := 4) rfl) (by decide +kernel) ⟨rfl, rfl, by decide +kernel⟩ (by unfold mdC; decide +kernel) (by unfold mdT; decide +kernel) (by unfold mdF; decide +kernel) (by unfold mdK; decide +kernel) ⟨⟨rfl, rfl, by decide +kernel⟩, rfl⟩ (by decide +kernel) q1709 q279 q79 q280 ⟨⟨by decide +kernel, by decide +kernel⟩, by decide +kernel⟩ hdg w1 (by decide +kernel) (by omega) hs8 kn kx)) (fun _ => ?_)
  exact gc_obgd (fun hk => gc_obgd (fun hka => gc_lamB (x := ⟨"ActorTrees$Test", "is", "(Ljava/lang/Object;)Z"⟩) (y := yX1_lambda_timed_0) (d' := 1) (v0 := (vr (cR t 901 v0))) (fc := 901) (cI := 12) (ds := "LActorTrees$Timer;") hC hnL (wX1_lambda_timed_0 (gLn X) Y hl hY (cR t 901 v0) (some a1) t) (by decide) hk (by decide) rfl rfl hka rfl (List.mem_of_getElem? (i := 5) rfl) (by decide +kernel) ⟨rfl, rfl, by decide +kernel⟩ (by unfold mdC; decide +kernel) (by unfold mdT; decide +kernel) (by unfold mdF; decide +kernel) (by unfold mdK; decide +kernel) ⟨⟨rfl, rfl, by decide +kernel⟩, rfl⟩ (by decide +kernel) q1709 q918 q75 q919 ⟨⟨by decide +kernel, by decide +kernel⟩, by decide +kernel⟩ hdg w1 (by decide +kernel) (by omega) hs8 kn kx))
def fX2_empties (v0 : Nat) (t : cS) : Option (Unit × cS) :=
  gd (cK t v0 = 3) (
  letv (sR t 22 v0 none) (fun s1 =>
  gd (cK s1 v0 = 3) (
  letv (sR s1 23 v0 none) (fun s2 =>
  gd (cK s2 v0 = 3) (
  letv (sI s2 24 v0 (nI 0)) (fun s3 =>
  (some ((), s3))
  )
  )
  )
  )
  )
  )
theorem mfX2_empties (v0 : Nat) (t : cS) : MO t (fX2_empties v0 t) := by
  unfold fX2_empties
  refine mo_gd ?_
  refine mo_letS cMo_sR (fun _ => ?_)
  refine mo_gd ?_
  refine mo_letS cMo_sR (fun _ => ?_)
  refine mo_gd ?_
  refine mo_letS cMo_sI (fun _ => ?_)
  exact mo_some
set_option maxHeartbeats 4000000 in
theorem wX2_empties (l : Launch) (Y : cY) (hl : l.stackTraces = false) (hY : ∀ q, q < Y.2.2.2.2.size → ¬ Y.2.2.2.1 q) (v0 : Nat) (t : cS) : cFn l Y yX2_empties (ws_ yX2_empties cX2_empties 1 none) 1 [.ref v0] t (fX2_empties v0 t) rV := by
  refine cmet (av := [.ref v0]) (mfX2_empties v0 t) hl hY (by decide +kernel) (lg_le (List.forall_mem_cons.mpr ⟨rfl, fun _ h => absurd h List.not_mem_nil⟩) (Nat.le_of_ble_eq_true rfl)) (lv_args_cat (List.forall_mem_cons.mpr ⟨rfl, fun _ h => absurd h List.not_mem_nil⟩)) ?_
  intro X ad0 hln hC hnL hrt hnm hT hmd
  subst hln
  have hG := hC.1
  rw [lv_args_s (List.forall_mem_cons.mpr ⟨rfl, fun _ h => absurd h List.not_mem_nil⟩)]
  show GC X Y (cM Y X 1 t ad0 rV) _ t 0 [(0, .ref v0)] []
  unfold fX2_empties
  refine gc_aload_n hG (v := .ref v0) (refV_a _) dX2_empties_0 rfl rfl ?_
  refine gc_null hG dX2_empties_1 ?_
  refine gc_gd (fun hk => ?_)
  have pt := pt_R (s := t) (f := 22) (a := v0) (x := none) rfl
  refine gc_put hC tyX2 tyX2_ok nmX2 hk dX2_empties_2 (ci := 2) (j := 1) (Or.inl (by decide)) rfl (by decide) in_X2 q131 (fun _ h => h) rfl (tyX2_ok 1 (by decide)) (nar_o none) (fit_o none) pt.1.1 pt.1.2.1 pt.1.2.2.1 pt.1.2.2.2 pt.2.1 pt.2.2.1 pt.2.2.2 ?_
  refine gc_letS (fun s1 => ?_)
  refine gc_aload_n hG (v := .ref v0) (refV_a _) dX2_empties_5 rfl rfl ?_
  refine gc_null hG dX2_empties_6 ?_
  refine gc_gd (fun hk => ?_)
  have pt := pt_R (s := s1) (f := 23) (a := v0) (x := none) rfl
  refine gc_put hC tyX2 tyX2_ok nmX2 hk dX2_empties_7 (ci := 2) (j := 2) (Or.inl (by decide)) rfl (by decide) in_X2 q133 (fun _ h => h) rfl (tyX2_ok 2 (by decide)) (nar_o none) (fit_o none) pt.1.1 pt.1.2.1 pt.1.2.2.1 pt.1.2.2.2 pt.2.1 pt.2.2.1 pt.2.2.2 ?_
  refine gc_letS (fun s2 => ?_)
  refine gc_aload_n hG (v := .ref v0) (refV_a _) dX2_empties_10 rfl rfl ?_
  refine gc_iconst hG (nI 0) dX2_empties_11 (by decide) ?_
  refine gc_gd (fun hk => ?_)
  have pt := pt_I (s := s2) (f := 24) (a := v0) (x := (nI 0)) rfl
  refine gc_put hC tyX2 tyX2_ok nmX2 hk dX2_empties_12 (ci := 2) (j := 3) (Or.inl (by decide)) rfl (by decide) in_X2 q134 (fun _ h => h) rfl (tyX2_ok 3 (by decide)) (fun _ => rfl) (fun _ => rfl) pt.1.1 pt.1.2.1 pt.1.2.2.1 pt.1.2.2.2 pt.2.1 pt.2.2.1 pt.2.2.2 ?_
  refine gc_letS (fun s3 => ?_)
  exact gc_vret hC hrt rfl dX2_empties_15
def fX2_drops_L9 (v0 : Nat) (v1 : Option Nat) (kx : cS → Option (Unit × cS)) : Nat → Option Nat → cS → Option (Unit × cS)
  | 0, _, _ => none
  | k + 1, v2, t =>
    onul v2 (
      kx t
    ) (fun a4 =>
      gd (cK t a4 = 7) (
      letv (cR t 46 a4) (fun x5 =>
      gd (cK t a4 = 7) (
      letv (sR t 46 a4 none) (fun s6 =>
      gd (cK s6 a4 = 7) (
      letv (cR s6 45 a4) (fun x7 =>
      rv v1 (fun a8 =>
      ob (fD_is a8 x7 s6) (fun r9 s10 =>
      jn (fun  (t11 : cS) =>
        fX2_drops_L9 v0 v1 kx k x5 t11
        ) (fun (j12 : cS → Option (Unit × cS)) =>
        if r9 = 0 then
          gd (cK s10 v0 = 3) (
          ob (fX2_links v0 (some a4) s10) (fun r13 s14 =>
          j12 s14
          )
          )
        else
          j12 s10
        )
      )
      )
      )
      )
      )
      )
      )
      )
    )
theorem mfX2_drops_L9 (v0 : Nat) (v1 : Option Nat) (kx : cS → Option (Unit × cS)) (hkx : ∀  (t : cS), MO t (kx t)) : ∀ (k : Nat) (v2 : Option Nat) (t : cS), MO t (fX2_drops_L9 v0 v1 kx k v2 t) := by
  intro k
  induction k with
  | zero => intro v2 t; exact mo_none
  | succ k ih =>
    intro v2 t
    rw [fX2_drops_L9]
    refine mo_onul ?_ (fun _ => ?_)
    · exact hkx _
    · refine mo_gd ?_
      refine mo_letv (fun _ => ?_)
      refine mo_gd ?_
      refine mo_letS cMo_sR (fun _ => ?_)
      refine mo_gd ?_
      refine mo_letv (fun _ => ?_)
      refine mo_rv (fun _ => ?_)
      refine mo_ob (by apply mfD_is) (fun _ _ => ?_)
      refine mo_jn (fun j_ => ∀ ( t11 : cS ), MO t11 (j_ t11)) (fun t11 => ?_) (fun j12 hj12 => ?_)
      · exact ih _ _
      · refine mo_ite ?_ ?_
        · refine mo_gd ?_
          refine mo_ob (by apply mfX2_links) (fun _ _ => ?_)
          exact hj12 _
        · exact hj12 _
set_option maxHeartbeats 4000000 in
theorem gfX2_drops_L9 {X : gCx} {Y : cY} {s0 : cS} {ad0 : Nat → Nat} (hC : cOk X Y RX2 cX2_drops 4) (hl : (gLn X).stackTraces = false) (hY : ∀ q, q < Y.2.2.2.2.size → ¬ Y.2.2.2.1 q) (hnL : gLoc X = 4) (hrt : gRet X = none) (hnm : X.2.2.2.2.2.2.2.2.1.name = "drops") (hT : gTab X = []) (hmd : (gSt X).methodNamed? yX2_drops = some (gMe X)) (v0 : Nat) (v1 : Option Nat) (kx : cS → Option (Unit × cS)) (hkx : ∀  (t : cS), GC X Y (cM Y X 4 s0 ad0 rV) (kx t) t 46 [] []) : ∀ (k : Nat) (v2 : Option Nat) (t : cS), GC X Y (cM Y X 4 s0 ad0 rV) (fX2_drops_L9 v0 v1 kx k v2 t) t 9 [(0, .ref v0), (1, vr v1), (2, vr v2)] [] := by
  have hG := hC.1
  intro k
  induction k with
  | zero => intro v2 t; exact gc_none
  | succ k ih =>
    intro v2 t
    rw [fX2_drops_L9]
    refine gc_aload_n hG (v := vr v2) (refV_x _) dX2_drops_9 rfl rfl ?_
    refine gc_ifnull hG (tgt := 46) dX2_drops_10 (by decide) (fun h_ => ?_) (fun a4 h_ => ?_)
    · subst h_
      refine gc_sub [] rfl ?_
      exact hkx t
    · subst h_
      refine gc_aload_n hG (v := .ref a4) (refV_a _) dX2_drops_13 rfl rfl ?_
      refine gc_gd (fun hk => ?_)
      refine gc_getN hC (ci := 6) (j := 1) (v := vr (cR t 46 a4)) hk dX2_drops_14 rfl (by decide) in_X8 q409 (fun _ h => h) rfl ?_
      refine gc_letr (fun x5 h_ => ?_)
      refine gc_astore_n hG (refV_x _) dX2_drops_17 rfl (Nat.le_of_ble_eq_true rfl) (lv' := [(0, _), (1, _), (2, _), (3, _)]) rfl ?_
      refine gc_aload_n hG (v := .ref a4) (refV_a _) dX2_drops_18 rfl rfl ?_
      refine gc_null hG dX2_drops_19 ?_
      refine gc_gd (fun hk => ?_)
      have pt := pt_R (s := t) (f := 46) (a := a4) (x := none) rfl
      refine gc_putN hC tyX8 tyX8_ok nmX8 hk dX2_drops_20 (ci := 6) (j := 1) (Or.inl (by decide)) rfl (by decide) in_X8 q409 (fun _ h => h) rfl (tyX8_ok 1 (by decide)) (nar_o none) (fit_o none) pt.1.1 pt.1.2.1 pt.1.2.2.1 pt.1.2.2.2 pt.2.1 pt.2.2.1 pt.2.2.2 ?_
      refine gc_letS (fun s6 => ?_)
      refine gc_aload_n hG (v := vr v1) (refV_x _) dX2_drops_23 rfl rfl ?_
      refine gc_aload_n hG (v := .ref a4) (refV_a _) dX2_drops_24 rfl rfl ?_
      refine gc_gd (fun hk => ?_)
      refine gc_getN hC (ci := 6) (j := 0) (v := vr (cR s6 45 a4)) hk dX2_drops_25 rfl (by decide) in_X8 q406 (fun _ h => h) rfl ?_
      refine gc_letr (fun x7 h_ => ?_)
      refine gc_rv (fun a8 h_ => ?_)
      subst h_
      refine gD_is (rest := []) hC hnL hl hY dX2_drops_28 q659 (by decide) (Nat.le_of_ble_eq_true rfl) (kn_I (fun r9 s10 => ?_)) kx_I
      refine gc_jn (fun j_ => ∀  (t11 : cS), GC X Y (cM Y X 4 s0 ad0 rV) (j_ t11) t11 41 [(0, .ref v0), (1, .ref a8), (3, vr x5)] []) (fun t11 => ?_) (fun j12 hj12 => ?_)
      · refine gc_aload_n hG (v := vr x5) (refV_x _) dX2_drops_41 rfl rfl ?_
        refine gc_astore_n hG (refV_x _) dX2_drops_42 rfl (Nat.le_of_ble_eq_true rfl) (lv' := [(0, _), (1, _), (2, _), (3, _)]) rfl ?_
        refine gc_goto hG (tgt := 9) dX2_drops_43 (by decide) ?_
        refine gc_sub [0, 1, 2] rfl ?_
        exact ih x5 t11
      · refine gc_if_ne hG (tgt := 41) dX2_drops_33 (by decide) ?_ ?_
        · refine gc_aload_n hG (v := .ref v0) (refV_a _) dX2_drops_36 rfl rfl ?_
          refine gc_aload_n hG (v := .ref a4) (refV_a _) dX2_drops_37 rfl rfl ?_
          refine gc_gd (fun hk => ?_)
          refine gc_callV (f := fX2_links v0 (some a4) s10) (As := [.ref a4]) (rest := []) (n := 1) (d' := 1) (b := v0) hC hnL (wX2_links (gLn X) Y hl hY v0 (some a4) s10) hk (ci := 2) rfl dX2_drops_38 q418 q420 qs1 q76 q421 ⟨by decide +kernel, by decide +kernel⟩ rfl (by decide) (by decide) (Nat.le_of_ble_eq_true rfl) (kn_V (fun r13 s14 => ?_)) kx_V
          refine gc_sub [0, 1, 3] rfl ?_
          exact hj12 s14
        · refine gc_sub [0, 1, 3] rfl ?_
          exact hj12 s10
def fX2_drops (v0 : Nat) (v1 : Option Nat) (t : cS) : Option (Unit × cS) :=
  gd (cK t v0 = 3) (
  letv (cR t 22 v0) (fun x1 =>
  gd (cK t v0 = 3) (
  ob (fX2_empties v0 t) (fun r2 s3 =>
  fX2_drops_L9 v0 v1 (fun  (t15 : cS) =>
    (some ((), t15))
    ) FU x1 s3
  )
  )
  )
  )
theorem mfX2_drops (v0 : Nat) (v1 : Option Nat) (t : cS) : MO t (fX2_drops v0 v1 t) := by
  unfold fX2_drops
  refine mo_gd ?_
  refine mo_letv (fun _ => ?_)
  refine mo_gd ?_
  refine mo_ob (by apply mfX2_empties) (fun _ _ => ?_)
  refine mfX2_drops_L9 _ _ _ (fun _ => ?_) _ _ _
  exact mo_some
set_option maxHeartbeats 4000000 in
theorem wX2_drops (l : Launch) (Y : cY) (hl : l.stackTraces = false) (hY : ∀ q, q < Y.2.2.2.2.size → ¬ Y.2.2.2.1 q) (v0 : Nat) (v1 : Option Nat) (t : cS) : cFn l Y yX2_drops (ws_ yX2_drops cX2_drops 4 none) 4 [.ref v0, vr v1] t (fX2_drops v0 v1 t) rV := by
  refine cmet (av := [.ref v0, vr v1]) (mfX2_drops v0 v1 t) hl hY (by decide +kernel) (lg_le (List.forall_mem_cons.mpr ⟨rfl, List.forall_mem_cons.mpr ⟨(cat_vr _), fun _ h => absurd h List.not_mem_nil⟩⟩) (Nat.le_of_ble_eq_true rfl)) (lv_args_cat (List.forall_mem_cons.mpr ⟨rfl, List.forall_mem_cons.mpr ⟨(cat_vr _), fun _ h => absurd h List.not_mem_nil⟩⟩)) ?_
  intro X ad0 hln hC hnL hrt hnm hT hmd
  subst hln
  have hG := hC.1
  rw [lv_args_s (List.forall_mem_cons.mpr ⟨rfl, List.forall_mem_cons.mpr ⟨(cat_vr _), fun _ h => absurd h List.not_mem_nil⟩⟩)]
  show GC X Y (cM Y X 4 t ad0 rV) _ t 0 [(0, .ref v0), (1, vr v1)] []
  unfold fX2_drops
  refine gc_aload_n hG (v := .ref v0) (refV_a _) dX2_drops_0 rfl rfl ?_
  refine gc_gd (fun hk => ?_)
  refine gc_get hC (ci := 2) (j := 1) (v := vr (cR t 22 v0)) hk dX2_drops_1 rfl (by decide) in_X2 q131 (fun _ h => h) rfl ?_
  refine gc_letr (fun x1 h_ => ?_)
  refine gc_astore_n hG (refV_x _) dX2_drops_4 rfl (Nat.le_of_ble_eq_true rfl) (lv' := [(0, _), (1, _), (2, _)]) rfl ?_
  refine gc_aload_n hG (v := .ref v0) (refV_a _) dX2_drops_5 rfl rfl ?_
  refine gc_gd (fun hk => ?_)
  refine gc_callV (f := fX2_empties v0 t) (As := []) (rest := []) (n := 0) (d' := 1) (b := v0) hC hnL (wX2_empties (gLn X) Y hl hY v0 t) hk (ci := 2) rfl dX2_drops_6 q657 q646 q647 q76 q648 ⟨by decide +kernel, by decide +kernel⟩ rfl (by decide) (by decide) (Nat.le_of_ble_eq_true rfl) (kn_V (fun r2 s3 => ?_)) kx_V
  refine gfX2_drops_L9 (s0 := t) (ad0 := ad0) hC hl hY hnL hrt hnm hT hmd v0 v1  _ (fun t15 => ?_) FU x1 s3
  exact gc_vret hC hrt rfl dX2_drops_46
def fX1_untimed (v0 : Nat) (v1 : Option Nat) (t : cS) : Option (Unit × cS) :=
  gd (cK t v0 = 2) (
  letv (cR t 12 v0) (fun x1 =>
  rv v1 (fun a2 =>
  gd (cK t a2 = 5) (
  letv (cR t 42 a2) (fun x3 =>
  rv x1 (fun a4 =>
  gd (cK t a4 = 3) (
  ob (fX2_drops a4 x3 t) (fun r5 s6 =>
  (some ((), s6))
  )
  )
  )
  )
  )
  )
  )
  )
theorem mfX1_untimed (v0 : Nat) (v1 : Option Nat) (t : cS) : MO t (fX1_untimed v0 v1 t) := by
  unfold fX1_untimed
  refine mo_gd ?_
  refine mo_letv (fun _ => ?_)
  refine mo_rv (fun _ => ?_)
  refine mo_gd ?_
  refine mo_letv (fun _ => ?_)
  refine mo_rv (fun _ => ?_)
  refine mo_gd ?_
  refine mo_ob (by apply mfX2_drops) (fun _ _ => ?_)
  exact mo_some
set_option maxHeartbeats 4000000 in
theorem wX1_untimed (l : Launch) (Y : cY) (hl : l.stackTraces = false) (hY : ∀ q, q < Y.2.2.2.2.size → ¬ Y.2.2.2.1 q) (v0 : Nat) (v1 : Option Nat) (t : cS) : cFn l Y yX1_untimed (ws_ yX1_untimed cX1_untimed 2 none) 5 [.ref v0, vr v1] t (fX1_untimed v0 v1 t) rV := by
  refine cmet (av := [.ref v0, vr v1]) (mfX1_untimed v0 v1 t) hl hY (by decide +kernel) (lg_le (List.forall_mem_cons.mpr ⟨rfl, List.forall_mem_cons.mpr ⟨(cat_vr _), fun _ h => absurd h List.not_mem_nil⟩⟩) (Nat.le_of_ble_eq_true rfl)) (lv_args_cat (List.forall_mem_cons.mpr ⟨rfl, List.forall_mem_cons.mpr ⟨(cat_vr _), fun _ h => absurd h List.not_mem_nil⟩⟩)) ?_
  intro X ad0 hln hC hnL hrt hnm hT hmd
  subst hln
  have hG := hC.1
  rw [lv_args_s (List.forall_mem_cons.mpr ⟨rfl, List.forall_mem_cons.mpr ⟨(cat_vr _), fun _ h => absurd h List.not_mem_nil⟩⟩)]
  show GC X Y (cM Y X 2 t ad0 rV) _ t 0 [(0, .ref v0), (1, vr v1)] []
  unfold fX1_untimed
  refine gc_aload_n hG (v := .ref v0) (refV_a _) dX1_untimed_0 rfl rfl ?_
  refine gc_gd (fun hk => ?_)
  refine gc_get hC (ci := 1) (j := 6) (v := vr (cR t 12 v0)) hk dX1_untimed_1 rfl (by decide) in_X1 q174 (fun _ h => h) rfl ?_
  refine gc_letr (fun x1 h_ => ?_)
  refine gc_aload_n hG (v := vr v1) (refV_x _) dX1_untimed_4 rfl rfl ?_
  refine gc_rv (fun a2 h_ => ?_)
  subst h_
  refine gc_gd (fun hk => ?_)
  refine gc_getN hC (ci := 4) (j := 16) (v := vr (cR t 42 a2)) hk dX1_untimed_5 rfl (by decide) in_X5 q326 (fun _ h => h) rfl ?_
  refine gc_letr (fun x3 h_ => ?_)
  refine gc_rv (fun a4 h_ => ?_)
  subst h_
  refine gc_gd (fun hk => ?_)
  refine gc_callV (f := fX2_drops a4 x3 t) (As := [vr x3]) (rest := []) (n := 1) (d' := 4) (b := a4) hC hnL (wX2_drops (gLn X) Y hl hY a4 x3 t) hk (ci := 2) rfl dX1_untimed_8 q653 q654 q655 q76 q656 ⟨by decide +kernel, by decide +kernel⟩ rfl (by decide) (by decide) (Nat.le_of_ble_eq_true rfl) (kn_V (fun r5 s6 => ?_)) kx_V
  exact gc_vret hC hrt rfl dX1_untimed_11
def fX2_takes (v0 : Nat) (t : cS) : Option (Option Nat × cS) :=
  gd (cK t v0 = 3) (
  letv (cR t 22 v0) (fun x1 =>
  rv x1 (fun a2 =>
  gd (cK t a2 = 7) (
  letv (cR t 45 a2) (fun x3 =>
  gd (cK t v0 = 3) (
  letv (cR t 22 v0) (fun x4 =>
  rv x4 (fun a5 =>
  gd (cK t a5 = 7) (
  letv (cR t 46 a5) (fun x6 =>
  gd (cK t v0 = 3) (
  letv (sR t 22 v0 x6) (fun s7 =>
  gd (cK s7 v0 = 3) (
  letv (cR s7 22 v0) (fun x8 =>
  jn (fun  (t9 : cS) =>
    gd (cK t9 v0 = 3) (
    letv (cI t9 24 v0) (fun x11 =>
    gd (cK t9 v0 = 3) (
    letv (sI t9 24 v0 (x11 - (nI 1))) (fun s12 =>
    (some (x3, s12))
    )
    )
    )
    )
    ) (fun (j10 : cS → Option (Option Nat × cS)) =>
    onul x8 (
      gd (cK s7 v0 = 3) (
      letv (sR s7 23 v0 none) (fun s14 =>
      j10 s14
      )
      )
    ) (fun a13 =>
      j10 s7
    )
    )
  )
  )
  )
  )
  )
  )
  )
  )
  )
  )
  )
  )
  )
  )
theorem mfX2_takes (v0 : Nat) (t : cS) : MO t (fX2_takes v0 t) := by
  unfold fX2_takes
  refine mo_gd ?_
  refine mo_letv (fun _ => ?_)
  refine mo_rv (fun _ => ?_)
  refine mo_gd ?_
  refine mo_letv (fun _ => ?_)
  refine mo_gd ?_
  refine mo_letv (fun _ => ?_)
  refine mo_rv (fun _ => ?_)
  refine mo_gd ?_
  refine mo_letv (fun _ => ?_)
  refine mo_gd ?_
  refine mo_letS cMo_sR (fun _ => ?_)
  refine mo_gd ?_
  refine mo_letv (fun _ => ?_)
  refine mo_jn (fun j_ => ∀ ( t9 : cS ), MO t9 (j_ t9)) (fun t9 => ?_) (fun j10 hj10 => ?_)
  · refine mo_gd ?_
    refine mo_letv (fun _ => ?_)
    refine mo_gd ?_
    refine mo_letS cMo_sI (fun _ => ?_)
    exact mo_some
  · refine mo_onul ?_ (fun _ => ?_)
    · refine mo_gd ?_
      refine mo_letS cMo_sR (fun _ => ?_)
      exact hj10 _
    · exact hj10 _
set_option maxHeartbeats 4000000 in
theorem wX2_takes (l : Launch) (Y : cY) (hl : l.stackTraces = false) (hY : ∀ q, q < Y.2.2.2.2.size → ¬ Y.2.2.2.1 q) (v0 : Nat) (t : cS) : cFn l Y yX2_takes (ws_ yX2_takes cX2_takes 2 (some (.object "java/lang/Object"))) 1 [.ref v0] t (fX2_takes v0 t) rR := by
  refine cmet (av := [.ref v0]) (mfX2_takes v0 t) hl hY (by decide +kernel) (lg_le (List.forall_mem_cons.mpr ⟨rfl, fun _ h => absurd h List.not_mem_nil⟩) (Nat.le_of_ble_eq_true rfl)) (lv_args_cat (List.forall_mem_cons.mpr ⟨rfl, fun _ h => absurd h List.not_mem_nil⟩)) ?_
  intro X ad0 hln hC hnL hrt hnm hT hmd
  subst hln
  have hG := hC.1
  rw [lv_args_s (List.forall_mem_cons.mpr ⟨rfl, fun _ h => absurd h List.not_mem_nil⟩)]
  show GC X Y (cM Y X 2 t ad0 rR) _ t 0 [(0, .ref v0)] []
  unfold fX2_takes
  refine gc_aload_n hG (v := .ref v0) (refV_a _) dX2_takes_0 rfl rfl ?_
  refine gc_gd (fun hk => ?_)
  refine gc_get hC (ci := 2) (j := 1) (v := vr (cR t 22 v0)) hk dX2_takes_1 rfl (by decide) in_X2 q131 (fun _ h => h) rfl ?_
  refine gc_letr (fun x1 h_ => ?_)
  refine gc_rv (fun a2 h_ => ?_)
  subst h_
  refine gc_gd (fun hk => ?_)
  refine gc_getN hC (ci := 6) (j := 0) (v := vr (cR t 45 a2)) hk dX2_takes_4 rfl (by decide) in_X8 q406 (fun _ h => h) rfl ?_
  refine gc_letr (fun x3 h_ => ?_)
  refine gc_astore_n hG (refV_x _) dX2_takes_7 rfl (Nat.le_of_ble_eq_true rfl) (lv' := [(0, _), (1, _)]) rfl ?_
  refine gc_aload_n hG (v := .ref v0) (refV_a _) dX2_takes_8 rfl rfl ?_
  refine gc_aload_n hG (v := .ref v0) (refV_a _) dX2_takes_9 rfl rfl ?_
  refine gc_gd (fun hk => ?_)
  refine gc_get hC (ci := 2) (j := 1) (v := vr (cR t 22 v0)) hk dX2_takes_10 rfl (by decide) in_X2 q131 (fun _ h => h) rfl ?_
  refine gc_letr (fun x4 h_ => ?_)
  refine gc_rv (fun a5 h_ => ?_)
  subst h_
  refine gc_gd (fun hk => ?_)
  refine gc_getN hC (ci := 6) (j := 1) (v := vr (cR t 46 a5)) hk dX2_takes_13 rfl (by decide) in_X8 q409 (fun _ h => h) rfl ?_
  refine gc_letr (fun x6 h_ => ?_)
  refine gc_gd (fun hk => ?_)
  have pt := pt_R (s := t) (f := 22) (a := v0) (x := x6) rfl
  refine gc_put hC tyX2 tyX2_ok nmX2 hk dX2_takes_16 (ci := 2) (j := 1) (Or.inl (by decide)) rfl (by decide) in_X2 q131 (fun _ h => h) rfl (tyX2_ok 1 (by decide)) (nar_o x6) (fit_o x6) pt.1.1 pt.1.2.1 pt.1.2.2.1 pt.1.2.2.2 pt.2.1 pt.2.2.1 pt.2.2.2 ?_
  refine gc_letS (fun s7 => ?_)
  refine gc_aload_n hG (v := .ref v0) (refV_a _) dX2_takes_19 rfl rfl ?_
  refine gc_gd (fun hk => ?_)
  refine gc_get hC (ci := 2) (j := 1) (v := vr (cR s7 22 v0)) hk dX2_takes_20 rfl (by decide) in_X2 q131 (fun _ h => h) rfl ?_
  refine gc_letr (fun x8 h_ => ?_)
  refine gc_jn (fun j_ => ∀  (t9 : cS), GC X Y (cM Y X 2 t ad0 rR) (j_ t9) t9 31 [(0, .ref v0), (1, vr x3)] []) (fun t9 => ?_) (fun j10 hj10 => ?_)
  · refine gc_aload_n hG (v := .ref v0) (refV_a _) dX2_takes_31 rfl rfl ?_
    refine gc_dup hG dX2_takes_32 rfl ?_
    refine gc_gd (fun hk => ?_)
    refine gc_get hC (ci := 2) (j := 3) (v := .int (cI t9 24 v0)) hk dX2_takes_33 rfl (by decide) in_X2 q134 (fun _ h => h) rfl ?_
    refine gc_letv (fun x11 h_ => ?_)
    refine gc_iconst hG (nI 1) dX2_takes_36 (by decide) ?_
    refine gc_isub hG dX2_takes_37 ?_
    refine gc_gd (fun hk => ?_)
    have pt := pt_I (s := t9) (f := 24) (a := v0) (x := (x11 - (nI 1))) rfl
    refine gc_put hC tyX2 tyX2_ok nmX2 hk dX2_takes_38 (ci := 2) (j := 3) (Or.inl (by decide)) rfl (by decide) in_X2 q134 (fun _ h => h) rfl (tyX2_ok 3 (by decide)) (fun _ => rfl) (fun _ => rfl) pt.1.1 pt.1.2.1 pt.1.2.2.1 pt.1.2.2.2 pt.2.1 pt.2.2.1 pt.2.2.2 ?_
    refine gc_letS (fun s12 => ?_)
    refine gc_aload_n hG (v := vr x3) (refV_x _) dX2_takes_41 rfl rfl ?_
    exact gc_aret hC hrt (Or.inl ⟨_, rfl⟩) (refV_x _) rfl dX2_takes_42
  · refine gc_ifnonnull hG (tgt := 31) dX2_takes_23 (by decide) (fun h_ => ?_) (fun a13 h_ => ?_)
    · subst h_
      refine gc_aload_n hG (v := .ref v0) (refV_a _) dX2_takes_26 rfl rfl ?_
      refine gc_null hG dX2_takes_27 ?_
      refine gc_gd (fun hk => ?_)
      have pt := pt_R (s := s7) (f := 23) (a := v0) (x := none) rfl
      refine gc_put hC tyX2 tyX2_ok nmX2 hk dX2_takes_28 (ci := 2) (j := 2) (Or.inl (by decide)) rfl (by decide) in_X2 q133 (fun _ h => h) rfl (tyX2_ok 2 (by decide)) (nar_o none) (fit_o none) pt.1.1 pt.1.2.1 pt.1.2.2.1 pt.1.2.2.2 pt.2.1 pt.2.2.1 pt.2.2.2 ?_
      refine gc_letS (fun s14 => ?_)
      exact hj10 s14
    · subst h_
      exact hj10 s7
def fX5_forgets (v0 : Nat) (v1 : Option Nat) (t : cS) : Option (Unit × cS) :=
  gd (cK t v0 = 5) (
  letv (cR t 39 v0) (fun x1 =>
  rv v1 (fun a2 =>
  gd (cK t a2 = 5) (
  letv (cR t 41 a2) (fun x3 =>
  rv x1 (fun a4 =>
  gd (cK t a4 = 3) (
  ob (fX2_drops a4 x3 t) (fun r5 s6 =>
  (some ((), s6))
  )
  )
  )
  )
  )
  )
  )
  )
theorem mfX5_forgets (v0 : Nat) (v1 : Option Nat) (t : cS) : MO t (fX5_forgets v0 v1 t) := by
  unfold fX5_forgets
  refine mo_gd ?_
  refine mo_letv (fun _ => ?_)
  refine mo_rv (fun _ => ?_)
  refine mo_gd ?_
  refine mo_letv (fun _ => ?_)
  refine mo_rv (fun _ => ?_)
  refine mo_gd ?_
  refine mo_ob (by apply mfX2_drops) (fun _ _ => ?_)
  exact mo_some
set_option maxHeartbeats 4000000 in
theorem wX5_forgets (l : Launch) (Y : cY) (hl : l.stackTraces = false) (hY : ∀ q, q < Y.2.2.2.2.size → ¬ Y.2.2.2.1 q) (v0 : Nat) (v1 : Option Nat) (t : cS) : cFn l Y yX5_forgets (ws_ yX5_forgets cX5_forgets 2 none) 5 [.ref v0, vr v1] t (fX5_forgets v0 v1 t) rV := by
  refine cmet (av := [.ref v0, vr v1]) (mfX5_forgets v0 v1 t) hl hY (by decide +kernel) (lg_le (List.forall_mem_cons.mpr ⟨rfl, List.forall_mem_cons.mpr ⟨(cat_vr _), fun _ h => absurd h List.not_mem_nil⟩⟩) (Nat.le_of_ble_eq_true rfl)) (lv_args_cat (List.forall_mem_cons.mpr ⟨rfl, List.forall_mem_cons.mpr ⟨(cat_vr _), fun _ h => absurd h List.not_mem_nil⟩⟩)) ?_
  intro X ad0 hln hC hnL hrt hnm hT hmd
  subst hln
  have hG := hC.1
  rw [lv_args_s (List.forall_mem_cons.mpr ⟨rfl, List.forall_mem_cons.mpr ⟨(cat_vr _), fun _ h => absurd h List.not_mem_nil⟩⟩)]
  show GC X Y (cM Y X 2 t ad0 rV) _ t 0 [(0, .ref v0), (1, vr v1)] []
  unfold fX5_forgets
  refine gc_aload_n hG (v := .ref v0) (refV_a _) dX5_forgets_0 rfl rfl ?_
  refine gc_gd (fun hk => ?_)
  refine gc_get hC (ci := 4) (j := 13) (v := vr (cR t 39 v0)) hk dX5_forgets_1 rfl (by decide) in_X5 q318 (fun _ h => h) rfl ?_
  refine gc_letr (fun x1 h_ => ?_)
  refine gc_aload_n hG (v := vr v1) (refV_x _) dX5_forgets_4 rfl rfl ?_
  refine gc_rv (fun a2 h_ => ?_)
  subst h_
  refine gc_gd (fun hk => ?_)
  refine gc_get hC (ci := 4) (j := 15) (v := vr (cR t 41 a2)) hk dX5_forgets_5 rfl (by decide) in_X5 q324 (fun _ h => h) rfl ?_
  refine gc_letr (fun x3 h_ => ?_)
  refine gc_rv (fun a4 h_ => ?_)
  subst h_
  refine gc_gd (fun hk => ?_)
  refine gc_callV (f := fX2_drops a4 x3 t) (As := [vr x3]) (rest := []) (n := 1) (d' := 4) (b := a4) hC hnL (wX2_drops (gLn X) Y hl hY a4 x3 t) hk (ci := 2) rfl dX5_forgets_8 q666 q654 q655 q76 q656 ⟨by decide +kernel, by decide +kernel⟩ rfl (by decide) (by decide) (Nat.le_of_ble_eq_true rfl) (kn_V (fun r5 s6 => ?_)) kx_V
  exact gc_vret hC hrt rfl dX5_forgets_11
def fX1_stops_L43 (v0 : Nat) (v1 : Nat) (kx : cS → Option (Unit × cS)) : Nat → Int32 → cS → Option (Unit × cS)
  | 0, _, _ => none
  | k + 1, v2, t =>
    gd (cK t v0 = 2) (
    letv (cI t 7 v0) (fun x20 =>
    if v2 < x20 then
      gd (cK t v0 = 2) (
      letv (cR t 6 v0) (fun x21 =>
      rv x21 (fun a22 =>
      gd (cK t a22 = 23 ∧ cIn t a22 v2) (
      letv (cR t (er (v2).toNatClampNeg) a22) (fun x23 =>
      rv x23 (fun a24 =>
      gd (cK t a24 = 5) (
      ob (fX5_forgets a24 (some v1) t) (fun r25 s26 =>
      letv (v2 + (nI 1)) (fun y27 =>
      fX1_stops_L43 v0 v1 kx k y27 s26
      )
      )
      )
      )
      )
      )
      )
      )
      )
    else
      kx t
    )
    )
theorem mfX1_stops_L43 (v0 : Nat) (v1 : Nat) (kx : cS → Option (Unit × cS)) (hkx : ∀  (t : cS), MO t (kx t)) : ∀ (k : Nat) (v2 : Int32) (t : cS), MO t (fX1_stops_L43 v0 v1 kx k v2 t) := by
  intro k
  induction k with
  | zero => intro v2 t; exact mo_none
  | succ k ih =>
    intro v2 t
    rw [fX1_stops_L43]
    refine mo_gd ?_
    refine mo_letv (fun _ => ?_)
    refine mo_ite ?_ ?_
    · refine mo_gd ?_
      refine mo_letv (fun _ => ?_)
      refine mo_rv (fun _ => ?_)
      refine mo_gd ?_
      refine mo_letv (fun _ => ?_)
      refine mo_rv (fun _ => ?_)
      refine mo_gd ?_
      refine mo_ob (by apply mfX5_forgets) (fun _ _ => ?_)
      refine mo_letv (fun _ => ?_)
      exact ih _ _
    · exact hkx _
set_option maxHeartbeats 4000000 in
theorem gfX1_stops_L43 {X : gCx} {Y : cY} {s0 : cS} {ad0 : Nat → Nat} {n : Nat} (hC : cOk X Y RX1 cX1_stops (5 + 2 * (n + 1))) (hl : (gLn X).stackTraces = false) (hY : ∀ q, q < Y.2.2.2.2.size → ¬ Y.2.2.2.1 q) (hnL : gLoc X = 3) (hrt : gRet X = none) (hnm : X.2.2.2.2.2.2.2.2.1.name = "stops") (hT : gTab X = []) (hmd : (gSt X).methodNamed? yX1_stops = some (gMe X)) (v0 : Nat) (v1 : Nat) (kx : cS → Option (Unit × cS)) (hkx : ∀  (t : cS), GC X Y (cM Y X 3 s0 ad0 rV) (kx t) t 67 [(0, .ref v0), (1, .ref v1)] []) : ∀ (k : Nat) (v2 : Int32) (t : cS), GC X Y (cM Y X 3 s0 ad0 rV) (fX1_stops_L43 v0 v1 kx k v2 t) t 43 [(0, .ref v0), (1, .ref v1), (2, .int v2)] [] := by
  have hG := hC.1
  intro k
  induction k with
  | zero => intro v2 t; exact gc_none
  | succ k ih =>
    intro v2 t
    rw [fX1_stops_L43]
    refine gc_iload_n hG dX1_stops_43 rfl rfl ?_
    refine gc_aload_n hG (v := .ref v0) (refV_a _) dX1_stops_44 rfl rfl ?_
    refine gc_gd (fun hk => ?_)
    refine gc_get hC (ci := 1) (j := 1) (v := .int (cI t 7 v0)) hk dX1_stops_45 rfl (by decide) in_X1 q162 (fun _ h => h) rfl ?_
    refine gc_letv (fun x20 h_ => ?_)
    refine gc_icmp_ge hG (tgt := 67) dX1_stops_48 (by decide) ?_ ?_
    · refine gc_aload_n hG (v := .ref v0) (refV_a _) dX1_stops_51 rfl rfl ?_
      refine gc_gd (fun hk => ?_)
      refine gc_get hC (ci := 1) (j := 0) (v := vr (cR t 6 v0)) hk dX1_stops_52 rfl (by decide) in_X1 q158 (fun _ h => h) rfl ?_
      refine gc_letr (fun x21 h_ => ?_)
      refine gc_iload_n hG dX1_stops_55 rfl rfl ?_
      refine gc_rv (fun a22 h_ => ?_)
      subst h_
      refine gc_gd (fun hk => ?_)
      refine gc_aald hC hk.1 (by decide) (by decide) (t0 := 3) rfl hk.2 dX1_stops_56 ?_
      refine gc_letr (fun x23 h_ => ?_)
      refine gc_aload_n hG (v := .ref v1) (refV_a _) dX1_stops_57 rfl rfl ?_
      refine gc_rv (fun a24 h_ => ?_)
      subst h_
      refine gc_gd (fun hk => ?_)
      refine gc_callV (f := fX5_forgets a24 (some v1) t) (As := [.ref v1]) (rest := []) (n := 1) (d' := 5) (b := a24) hC hnL (wX5_forgets (gLn X) Y hl hY a24 (some v1) t) hk (ci := 4) rfl dX1_stops_58 q662 q663 q664 q79 q665 ⟨by decide +kernel, by decide +kernel⟩ rfl (by omega) (by decide) (Nat.le_of_ble_eq_true rfl) (kn_V (fun r25 s26 => ?_)) kx_V
      refine gc_letiinc hG (c := (nI 1)) (lv' := fun y27 => [(0, .ref v0), (1, .ref v1), (2, .int y27)]) dX1_stops_61 rfl (by decide) (Nat.le_of_ble_eq_true rfl) (fun _ => rfl) (fun y27 => ?_)
      refine gc_goto hG (tgt := 43) dX1_stops_64 (by decide) ?_
      exact ih y27 s26
    · refine gc_sub [0, 1] rfl ?_
      exact hkx t
def fX1_stops_L67 (v0 : Nat) (v1 : Nat) (kx : cS → Option (Unit × cS)) : Nat → cS → Option (Unit × cS)
  | 0, _ => none
  | k + 1, t =>
    gd (cK t v1 = 5) (
    letv (cR t 39 v1) (fun x29 =>
    rv x29 (fun a30 =>
    gd (cK t a30 = 3) (
    letv (cI t 24 a30) (fun x31 =>
    if 0 < x31 then
      gd (cK t v0 = 2) (
      letv (cR t 6 v0) (fun x32 =>
      gd (cK t v1 = 5) (
      letv (cR t 39 v1) (fun x33 =>
      rv x33 (fun a34 =>
      gd (cK t a34 = 3) (
      ob (fX2_takes a34 t) (fun r35 s36 =>
      rv r35 (fun a37 =>
      gd (cK s36 a37 = 17) (
      gd (cK s36 a37 = 17) (
      ob (fJ5_intValue a37 s36) (fun r38 s39 =>
      rv x32 (fun a40 =>
      gd (cK s39 a40 = 23 ∧ cIn s39 a40 r38) (
      letv (cR s39 (er (r38).toNatClampNeg) a40) (fun x41 =>
      letv (sN s39 9 0 2) (fun s42 =>
      gd (cK s42 v1 = 5) (
      letv (cI s42 26 v1) (fun x43 =>
      ob (fX10_init (cn s39) x43 s42) (fun r44 s45 =>
      gd (cK s45 v0 = 2) (
      ob (fX1_sends v0 x41 (some (cn s39)) s45) (fun r46 s47 =>
      fX1_stops_L67 v0 v1 kx k s47
      )
      )
      )
      )
      )
      )
      )
      )
      )
      )
      )
      )
      )
      )
      )
      )
      )
      )
      )
      )
    else
      kx t
    )
    )
    )
    )
    )
theorem mfX1_stops_L67 (v0 : Nat) (v1 : Nat) (kx : cS → Option (Unit × cS)) (hkx : ∀  (t : cS), MO t (kx t)) : ∀ (k : Nat)  (t : cS), MO t (fX1_stops_L67 v0 v1 kx k t) := by
  intro k
  induction k with
  | zero => intro t; exact mo_none
  | succ k ih =>
    intro t
    rw [fX1_stops_L67]
    refine mo_gd ?_
    refine mo_letv (fun _ => ?_)
    refine mo_rv (fun _ => ?_)
    refine mo_gd ?_
    refine mo_letv (fun _ => ?_)
    refine mo_ite ?_ ?_
    · refine mo_gd ?_
      refine mo_letv (fun _ => ?_)
      refine mo_gd ?_
      refine mo_letv (fun _ => ?_)
      refine mo_rv (fun _ => ?_)
      refine mo_gd ?_
      refine mo_ob (by apply mfX2_takes) (fun _ _ => ?_)
      refine mo_rv (fun _ => ?_)
      refine mo_gd ?_
      refine mo_gd ?_
      refine mo_ob (by apply mfJ5_intValue) (fun _ _ => ?_)
      refine mo_rv (fun _ => ?_)
      refine mo_gd ?_
      refine mo_letv (fun _ => ?_)
      refine mo_letS cMo_sN (fun _ => ?_)
      refine mo_gd ?_
      refine mo_letv (fun _ => ?_)
      refine mo_ob (by apply mfX10_init) (fun _ _ => ?_)
      refine mo_gd ?_
      refine mo_ob (by apply mfX1_sends) (fun _ _ => ?_)
      exact ih _
    · exact hkx _
set_option maxHeartbeats 4000000 in
theorem gfX1_stops_L67 {X : gCx} {Y : cY} {s0 : cS} {ad0 : Nat → Nat} {n : Nat} (hC : cOk X Y RX1 cX1_stops (5 + 2 * (n + 1))) (hl : (gLn X).stackTraces = false) (hY : ∀ q, q < Y.2.2.2.2.size → ¬ Y.2.2.2.1 q) (hnL : gLoc X = 3) (hrt : gRet X = none) (hnm : X.2.2.2.2.2.2.2.2.1.name = "stops") (hT : gTab X = []) (hmd : (gSt X).methodNamed? yX1_stops = some (gMe X)) (v0 : Nat) (v1 : Nat) (kx : cS → Option (Unit × cS)) (hkx : ∀  (t : cS), GC X Y (cM Y X 3 s0 ad0 rV) (kx t) t 114 [] []) : ∀ (k : Nat)  (t : cS), GC X Y (cM Y X 3 s0 ad0 rV) (fX1_stops_L67 v0 v1 kx k t) t 67 [(0, .ref v0), (1, .ref v1)] [] := by
  have hG := hC.1
  intro k
  induction k with
  | zero => intro t; exact gc_none
  | succ k ih =>
    intro t
    rw [fX1_stops_L67]
    refine gc_aload_n hG (v := .ref v1) (refV_a _) dX1_stops_67 rfl rfl ?_
    refine gc_gd (fun hk => ?_)
    refine gc_getN hC (ci := 4) (j := 13) (v := vr (cR t 39 v1)) hk dX1_stops_68 rfl (by decide) in_X5 q320 (fun _ h => h) rfl ?_
    refine gc_letr (fun x29 h_ => ?_)
    refine gc_rv (fun a30 h_ => ?_)
    subst h_
    refine gc_gd (fun hk => ?_)
    refine gc_getN hC (ci := 2) (j := 3) (v := .int (cI t 24 a30)) hk dX1_stops_71 rfl (by decide) in_X2 q135 (fun _ h => h) rfl ?_
    refine gc_letv (fun x31 h_ => ?_)
    refine gc_if_le hG (tgt := 114) dX1_stops_74 (by decide) ?_ ?_
    · refine gc_aload_n hG (v := .ref v0) (refV_a _) dX1_stops_77 rfl rfl ?_
      refine gc_aload_n hG (v := .ref v0) (refV_a _) dX1_stops_78 rfl rfl ?_
      refine gc_gd (fun hk => ?_)
      refine gc_get hC (ci := 1) (j := 0) (v := vr (cR t 6 v0)) hk dX1_stops_79 rfl (by decide) in_X1 q158 (fun _ h => h) rfl ?_
      refine gc_letr (fun x32 h_ => ?_)
      refine gc_aload_n hG (v := .ref v1) (refV_a _) dX1_stops_82 rfl rfl ?_
      refine gc_gd (fun hk => ?_)
      refine gc_getN hC (ci := 4) (j := 13) (v := vr (cR t 39 v1)) hk dX1_stops_83 rfl (by decide) in_X5 q320 (fun _ h => h) rfl ?_
      refine gc_letr (fun x33 h_ => ?_)
      refine gc_rv (fun a34 h_ => ?_)
      subst h_
      refine gc_gd (fun hk => ?_)
      refine gc_callV (f := fX2_takes a34 t) (As := []) (rest := [vr x32, .ref v0]) (n := 0) (d' := 1) (b := a34) hC hnL (wX2_takes (gLn X) Y hl hY a34 t) hk (ci := 2) rfl dX1_stops_86 q667 q668 q669 q76 q670 ⟨by decide +kernel, by decide +kernel⟩ rfl (by omega) (by decide) (by simp [cat_vr, cat_r, cat_i, cat_n]) (kn_R (fun r35 s36 => ?_)) kx_R
      refine gc_rv (fun a37 h_ => ?_)
      subst h_
      refine gc_gd (fun hk => ?_)
      refine gc_castE hC hk (ci := 16) rfl q671 dX1_stops_89 ?_
      refine gc_gd (fun hk => ?_)
      refine gc_callV (f := fJ5_intValue a37 s36) (As := []) (rest := [vr x32, .ref v0]) (n := 0) (d' := 1) (b := a37) hC hnL (wJ5_intValue (gLn X) Y hl hY a37 s36) hk (ci := 16) rfl dX1_stops_92 q672 q276 q277 q89 q278 ⟨by decide +kernel, by decide +kernel⟩ rfl (by omega) (by decide) (by simp [cat_vr, cat_r, cat_i, cat_n]) (kn_I (fun r38 s39 => ?_)) kx_I
      refine gc_rv (fun a40 h_ => ?_)
      subst h_
      refine gc_gd (fun hk => ?_)
      refine gc_aald hC hk.1 (by decide) (by decide) (t0 := 3) rfl hk.2 dX1_stops_95 ?_
      refine gc_letr (fun x41 h_ => ?_)
      refine gc_new hC (ci := 8) tyX10 tyX10_ok rfl in_X10 dX1_stops_96 q673 q674 q90 (by decide +kernel) ?_
      refine gc_letS (fun s42 => ?_)
      refine gc_dup hG dX1_stops_99 rfl ?_
      refine gc_aload_n hG (v := .ref v1) (refV_a _) dX1_stops_100 rfl rfl ?_
      refine gc_gd (fun hk => ?_)
      refine gc_getN hC (ci := 4) (j := 0) (v := .int (cI s42 26 v1)) hk dX1_stops_101 rfl (by decide) in_X5 q283 (fun _ h => h) rfl ?_
      refine gc_letv (fun x43 h_ => ?_)
      refine gc_callI (f := fX10_init (cn s39) x43 s42) (As := [.int x43]) (rest := [.ref (cn s39), vr x41, .ref v0]) (n := 1) (d' := 2) (b := (cn s39)) hC hnL (wX10_init (gLn X) Y hl hY (cn s39) x43 s42) dX1_stops_104 q675 q676 q90 q677 ⟨by decide +kernel, by decide +kernel⟩ rfl rfl (by omega) (by decide) (by simp [cat_vr, cat_r, cat_i, cat_n]) (kn_V (fun r44 s45 => ?_)) kx_V
      refine gc_gd (fun hk => ?_)
      refine gc_callV (f := fX1_sends v0 x41 (some (cn s39)) s45) (As := [vr x41, .ref (cn s39)]) (rest := []) (n := 2) (d' := 3) (b := v0) hC hnL (wX1_sends (gLn X) Y hl hY v0 x41 (some (cn s39)) s45) hk (ci := 1) rfl dX1_stops_107 q685 q391 q392 q75 q393 ⟨by decide +kernel, by decide +kernel⟩ rfl (by omega) (by decide) (Nat.le_of_ble_eq_true rfl) (kn_I (fun r46 s47 => ?_)) kx_I
      refine gc_pop hG dX1_stops_110 rfl ?_
      refine gc_goto hG (tgt := 67) dX1_stops_111 (by decide) ?_
      exact ih s47
    · refine gc_sub [] rfl ?_
      exact hkx t
def fX1_stops : Nat → Nat → Option Nat → cS → Option (Unit × cS)
  | 0, _, _, _ => none
  | n + 1, v0, v1, t =>
    gd (cK t v0 = 2) (
    ob (fX1_stopsBelow (fX1_stops n) v0 v1 t) (fun r1 s2 =>
    rv v1 (fun a3 =>
    gd (cK s2 a3 = 5) (
    letv (sI s2 33 a3 (nI 0)) (fun s4 =>
    gd (cK s4 a3 = 5) (
    letv (cR s4 37 a3) (fun x5 =>
    rv x5 (fun a6 =>
    gd (cK s4 a6 = 3) (
    ob (fX2_empties a6 s4) (fun r7 s8 =>
    gd (cK s8 a3 = 5) (
    letv (cR s8 38 a3) (fun x9 =>
    rv x9 (fun a10 =>
    gd (cK s8 a10 = 3) (
    ob (fX2_empties a10 s8) (fun r11 s12 =>
    gd (cK s12 a3 = 5) (
    letv (sI s12 36 a3 (nI 1)) (fun s13 =>
    gd (cK s13 a3 = 5) (
    letv (cR s13 40 a3) (fun x14 =>
    rv x14 (fun a15 =>
    gd (cK s13 a15 = 3) (
    ob (fX2_empties a15 s13) (fun r16 s17 =>
    gd (cK s17 v0 = 2) (
    ob (fX1_untimed v0 (some a3) s17) (fun r18 s19 =>
    fX1_stops_L43 v0 a3 (fun  (t28 : cS) =>
      fX1_stops_L67 v0 a3 (fun  (t48 : cS) =>
        (some ((), t48))
        ) FU t28
      ) FU (nI 0) s19
    )
    )
    )
    )
    )
    )
    )
    )
    )
    )
    )
    )
    )
    )
    )
    )
    )
    )
    )
    )
    )
    )
    )
    )
theorem mfX1_stops : ∀ (n : Nat) (v0 : Nat) (v1 : Option Nat) (t : cS), MO t (fX1_stops n v0 v1 t) := by
  intro n
  induction n with
  | zero => intro v0 v1 t; exact mo_none
  | succ n ih =>
    intro v0 v1 t
    have hrec := ih
    rw [fX1_stops]
    refine mo_gd ?_
    refine mo_ob (by apply mfX1_stopsBelow; first | exact hrec | exact mfX1_stops 13) (fun _ _ => ?_)
    refine mo_rv (fun _ => ?_)
    refine mo_gd ?_
    refine mo_letS cMo_sI (fun _ => ?_)
    refine mo_gd ?_
    refine mo_letv (fun _ => ?_)
    refine mo_rv (fun _ => ?_)
    refine mo_gd ?_
    refine mo_ob (by apply mfX2_empties) (fun _ _ => ?_)
    refine mo_gd ?_
    refine mo_letv (fun _ => ?_)
    refine mo_rv (fun _ => ?_)
    refine mo_gd ?_
    refine mo_ob (by apply mfX2_empties) (fun _ _ => ?_)
    refine mo_gd ?_
    refine mo_letS cMo_sI (fun _ => ?_)
    refine mo_gd ?_
    refine mo_letv (fun _ => ?_)
    refine mo_rv (fun _ => ?_)
    refine mo_gd ?_
    refine mo_ob (by apply mfX2_empties) (fun _ _ => ?_)
    refine mo_gd ?_
    refine mo_ob (by apply mfX1_untimed) (fun _ _ => ?_)
    refine mfX1_stops_L43 _ _ _ (fun _ => ?_) _ _ _
    refine mfX1_stops_L67 _ _ _ (fun _ => ?_) _ _
    exact mo_some
set_option maxHeartbeats 4000000 in
theorem wX1_stops : ∀ (n : Nat) (l : Launch) (Y : cY) (hl : l.stackTraces = false) (hY : ∀ q, q < Y.2.2.2.2.size → ¬ Y.2.2.2.1 q) (v0 : Nat) (v1 : Option Nat) (t : cS), cFn l Y yX1_stops (ws_ yX1_stops cX1_stops 3 none) (5 + 2 * n) [.ref v0, vr v1] t (fX1_stops n v0 v1 t) rV := by
  intro n
  induction n with
  | zero => intro l Y hl hY v0 v1 t r s1 h; cases h
  | succ n ih =>
    intro l Y hl hY v0 v1 t
    refine cmet (av := [.ref v0, vr v1]) (mfX1_stops (n + 1) v0 v1 t) hl hY (by decide +kernel) (lg_le (List.forall_mem_cons.mpr ⟨rfl, List.forall_mem_cons.mpr ⟨(cat_vr _), fun _ h => absurd h List.not_mem_nil⟩⟩) (Nat.le_of_ble_eq_true rfl)) (lv_args_cat (List.forall_mem_cons.mpr ⟨rfl, List.forall_mem_cons.mpr ⟨(cat_vr _), fun _ h => absurd h List.not_mem_nil⟩⟩)) ?_
    intro X ad0 hln hC hnL hrt hnm hT hmd
    subst hln
    have hG := hC.1
    have ihn := ih (gLn X) Y hl hY
    rw [lv_args_s (List.forall_mem_cons.mpr ⟨rfl, List.forall_mem_cons.mpr ⟨(cat_vr _), fun _ h => absurd h List.not_mem_nil⟩⟩)]
    show GC X Y (cM Y X 3 t ad0 rV) _ t 0 [(0, .ref v0), (1, vr v1)] []
    rw [fX1_stops]
    refine gc_aload_n hG (v := .ref v0) (refV_a _) dX1_stops_0 rfl rfl ?_
    refine gc_aload_n hG (v := vr v1) (refV_x _) dX1_stops_1 rfl rfl ?_
    refine gc_gd (fun hk => ?_)
    refine gc_callV (f := fX1_stopsBelow (fX1_stops n) v0 v1 t) (As := [vr v1]) (rest := []) (n := 1) (d' := ((5 + 2 * n) + 1)) (b := v0) hC hnL (wX1_stopsBelow (gLn X) Y hl hY (fX1_stops n) (5 + 2 * n) (by omega) ihn (mfX1_stops n) v0 v1 t) hk (ci := 1) rfl dX1_stops_2 q640 q641 q642 q75 q643 ⟨by decide +kernel, by decide +kernel⟩ rfl (by omega) (by decide) (Nat.le_of_ble_eq_true rfl) (kn_V (fun r1 s2 => ?_)) kx_V
    refine gc_aload_n hG (v := vr v1) (refV_x _) dX1_stops_5 rfl rfl ?_
    refine gc_iconst hG (nI 0) dX1_stops_6 (by decide) ?_
    refine gc_rv (fun a3 h_ => ?_)
    subst h_
    have hz : (nI 0) = nI 0 ∨ (nI 0) = nI 1 := by decide
    refine gc_gd (fun hk => ?_)
    have pt := pt_I (s := s2) (f := 33) (a := a3) (x := (nI 0)) rfl
    refine gc_putN hC tyX5 tyX5_ok nmX5 hk dX1_stops_7 (ci := 4) (j := 7) (Or.inl (by decide)) rfl (by decide) in_X5 q300 (fun _ h => h) rfl (tyX5_ok 7 (by decide)) (nar_z2 hz) (fit_z2 hz) pt.1.1 pt.1.2.1 pt.1.2.2.1 pt.1.2.2.2 pt.2.1 pt.2.2.1 pt.2.2.2 ?_
    refine gc_letS (fun s4 => ?_)
    refine gc_aload_n hG (v := .ref a3) (refV_a _) dX1_stops_10 rfl rfl ?_
    refine gc_gd (fun hk => ?_)
    refine gc_getN hC (ci := 4) (j := 11) (v := vr (cR s4 37 a3)) hk dX1_stops_11 rfl (by decide) in_X5 q313 (fun _ h => h) rfl ?_
    refine gc_letr (fun x5 h_ => ?_)
    refine gc_rv (fun a6 h_ => ?_)
    subst h_
    refine gc_gd (fun hk => ?_)
    refine gc_callV (f := fX2_empties a6 s4) (As := []) (rest := []) (n := 0) (d' := 1) (b := a6) hC hnL (wX2_empties (gLn X) Y hl hY a6 s4) hk (ci := 2) rfl dX1_stops_14 q645 q646 q647 q76 q648 ⟨by decide +kernel, by decide +kernel⟩ rfl (by omega) (by decide) (Nat.le_of_ble_eq_true rfl) (kn_V (fun r7 s8 => ?_)) kx_V
    refine gc_aload_n hG (v := .ref a3) (refV_a _) dX1_stops_17 rfl rfl ?_
    refine gc_gd (fun hk => ?_)
    refine gc_getN hC (ci := 4) (j := 12) (v := vr (cR s8 38 a3)) hk dX1_stops_18 rfl (by decide) in_X5 q316 (fun _ h => h) rfl ?_
    refine gc_letr (fun x9 h_ => ?_)
    refine gc_rv (fun a10 h_ => ?_)
    subst h_
    refine gc_gd (fun hk => ?_)
    refine gc_callV (f := fX2_empties a10 s8) (As := []) (rest := []) (n := 0) (d' := 1) (b := a10) hC hnL (wX2_empties (gLn X) Y hl hY a10 s8) hk (ci := 2) rfl dX1_stops_21 q645 q646 q647 q76 q648 ⟨by decide +kernel, by decide +kernel⟩ rfl (by omega) (by decide) (Nat.le_of_ble_eq_true rfl) (kn_V (fun r11 s12 => ?_)) kx_V
    refine gc_aload_n hG (v := .ref a3) (refV_a _) dX1_stops_24 rfl rfl ?_
    refine gc_iconst hG (nI 1) dX1_stops_25 (by decide) ?_
    refine gc_gd (fun hk => ?_)
    have pt := pt_I (s := s12) (f := 36) (a := a3) (x := (nI 1)) rfl
    refine gc_putN hC tyX5 tyX5_ok nmX5 hk dX1_stops_26 (ci := 4) (j := 10) (Or.inl (by decide)) rfl (by decide) in_X5 q311 (fun _ h => h) rfl (tyX5_ok 10 (by decide)) (fun _ => rfl) (fun _ => rfl) pt.1.1 pt.1.2.1 pt.1.2.2.1 pt.1.2.2.2 pt.2.1 pt.2.2.1 pt.2.2.2 ?_
    refine gc_letS (fun s13 => ?_)
    refine gc_aload_n hG (v := .ref a3) (refV_a _) dX1_stops_29 rfl rfl ?_
    refine gc_gd (fun hk => ?_)
    refine gc_getN hC (ci := 4) (j := 14) (v := vr (cR s13 40 a3)) hk dX1_stops_30 rfl (by decide) in_X5 q323 (fun _ h => h) rfl ?_
    refine gc_letr (fun x14 h_ => ?_)
    refine gc_rv (fun a15 h_ => ?_)
    subst h_
    refine gc_gd (fun hk => ?_)
    refine gc_callV (f := fX2_empties a15 s13) (As := []) (rest := []) (n := 0) (d' := 1) (b := a15) hC hnL (wX2_empties (gLn X) Y hl hY a15 s13) hk (ci := 2) rfl dX1_stops_33 q645 q646 q647 q76 q648 ⟨by decide +kernel, by decide +kernel⟩ rfl (by omega) (by decide) (Nat.le_of_ble_eq_true rfl) (kn_V (fun r16 s17 => ?_)) kx_V
    refine gc_aload_n hG (v := .ref v0) (refV_a _) dX1_stops_36 rfl rfl ?_
    refine gc_aload_n hG (v := .ref a3) (refV_a _) dX1_stops_37 rfl rfl ?_
    refine gc_gd (fun hk => ?_)
    refine gc_callV (f := fX1_untimed v0 (some a3) s17) (As := [.ref a3]) (rest := []) (n := 1) (d' := 5) (b := v0) hC hnL (wX1_untimed (gLn X) Y hl hY v0 (some a3) s17) hk (ci := 1) rfl dX1_stops_38 q649 q650 q651 q75 q652 ⟨by decide +kernel, by decide +kernel⟩ rfl (by omega) (by decide) (Nat.le_of_ble_eq_true rfl) (kn_V (fun r18 s19 => ?_)) kx_V
    refine gc_iconst hG (nI 0) dX1_stops_41 (by decide) ?_
    refine gc_istore_n hG dX1_stops_42 rfl (Nat.le_of_ble_eq_true rfl) (lv' := [(0, _), (1, _), (2, _)]) rfl ?_
    refine gfX1_stops_L43 (s0 := t) (ad0 := ad0) hC hl hY hnL hrt hnm hT hmd v0 a3 _ (fun t28 => ?_) FU (nI 0) s19
    refine gfX1_stops_L67 (s0 := t) (ad0 := ad0) hC hl hY hnL hrt hnm hT hmd v0 a3 _ (fun t48 => ?_) FU t28
    exact gc_vret hC hrt rfl dX1_stops_114
def fX0_stop (v0 : Nat) (v1 : Int32) (t : cS) : Option (Int32 × cS) :=
  gd (cK t v0 = 1) (
  ob (fX0_isActor v0 v1 t) (fun r1 s2 =>
  if r1 = 0 then
    (some ((-1 : Int32), s2))
  else
    gd (cK s2 v0 = 1) (
    letv (cR s2 1 v0) (fun x3 =>
    rv x3 (fun a4 =>
    gd (cK s2 a4 = 2) (
    letv (cR s2 6 a4) (fun x5 =>
    rv x5 (fun a6 =>
    gd (cK s2 a6 = 23 ∧ cIn s2 a6 v1) (
    letv (cR s2 (er (v1).toNatClampNeg) a6) (fun x7 =>
    rv x7 (fun a8 =>
    gd (cK s2 a8 = 5) (
    letv (cI s2 33 a8) (fun x9 =>
    if x9 = 0 then
      (some ((-5 : Int32), s2))
    else
      gd (cK s2 v0 = 1) (
      letv (cR s2 1 v0) (fun x10 =>
      rv x10 (fun a11 =>
      gd (cK s2 a11 = 2) (
      ob (fX1_liveOnes a11 s2) (fun r12 s13 =>
      ob (fJ5_bitCount r12 s13) (fun r14 s15 =>
      gd (cK s15 v0 = 1) (
      letv (cR s15 1 v0) (fun x16 =>
      gd (cK s15 v0 = 1) (
      letv (cR s15 1 v0) (fun x17 =>
      rv x17 (fun a18 =>
      gd (cK s15 a18 = 2) (
      letv (cR s15 6 a18) (fun x19 =>
      rv x19 (fun a20 =>
      gd (cK s15 a20 = 23 ∧ cIn s15 a20 v1) (
      letv (cR s15 (er (v1).toNatClampNeg) a20) (fun x21 =>
      rv x16 (fun a22 =>
      gd (cK s15 a22 = 2) (
      ob (fX1_stops 13 a22 x21 s15) (fun r23 s24 =>
      gd (cK s24 v0 = 1) (
      letv (cR s24 1 v0) (fun x25 =>
      rv x25 (fun a26 =>
      gd (cK s24 a26 = 2) (
      ob (fX1_liveOnes a26 s24) (fun r27 s28 =>
      ob (fJ5_bitCount r27 s28) (fun r29 s30 =>
      (some (((r14 - r29)), s30))
      )
      )
      )
      )
      )
      )
      )
      )
      )
      )
      )
      )
      )
      )
      )
      )
      )
      )
      )
      )
      )
      )
      )
      )
      )
    )
    )
    )
    )
    )
    )
    )
    )
    )
    )
    )
  )
  )
theorem mfX0_stop (v0 : Nat) (v1 : Int32) (t : cS) : MO t (fX0_stop v0 v1 t) := by
  unfold fX0_stop
  refine mo_gd ?_
  refine mo_ob (by apply mfX0_isActor) (fun _ _ => ?_)
  refine mo_ite ?_ ?_
  · exact mo_some
  · refine mo_gd ?_
    refine mo_letv (fun _ => ?_)
    refine mo_rv (fun _ => ?_)
    refine mo_gd ?_
    refine mo_letv (fun _ => ?_)
    refine mo_rv (fun _ => ?_)
    refine mo_gd ?_
    refine mo_letv (fun _ => ?_)
    refine mo_rv (fun _ => ?_)
    refine mo_gd ?_
    refine mo_letv (fun _ => ?_)
    refine mo_ite ?_ ?_
    · exact mo_some
    · refine mo_gd ?_
      refine mo_letv (fun _ => ?_)
      refine mo_rv (fun _ => ?_)
      refine mo_gd ?_
      refine mo_ob (by apply mfX1_liveOnes) (fun _ _ => ?_)
      refine mo_ob (by apply mfJ5_bitCount) (fun _ _ => ?_)
      refine mo_gd ?_
      refine mo_letv (fun _ => ?_)
      refine mo_gd ?_
      refine mo_letv (fun _ => ?_)
      refine mo_rv (fun _ => ?_)
      refine mo_gd ?_
      refine mo_letv (fun _ => ?_)
      refine mo_rv (fun _ => ?_)
      refine mo_gd ?_
      refine mo_letv (fun _ => ?_)
      refine mo_rv (fun _ => ?_)
      refine mo_gd ?_
      refine mo_ob (by apply mfX1_stops) (fun _ _ => ?_)
      refine mo_gd ?_
      refine mo_letv (fun _ => ?_)
      refine mo_rv (fun _ => ?_)
      refine mo_gd ?_
      refine mo_ob (by apply mfX1_liveOnes) (fun _ _ => ?_)
      refine mo_ob (by apply mfJ5_bitCount) (fun _ _ => ?_)
      exact mo_some
set_option maxHeartbeats 4000000 in
theorem wX0_stop (l : Launch) (Y : cY) (hl : l.stackTraces = false) (hY : ∀ q, q < Y.2.2.2.2.size → ¬ Y.2.2.2.1 q) (v0 : Nat) (v1 : Int32) (t : cS) : cFn l Y yX0_stop (ws_ yX0_stop cX0_stop 3 (some .int)) 32 [.ref v0, .int v1] t (fX0_stop v0 v1 t) rI := by
  refine cmet (av := [.ref v0, .int v1]) (mfX0_stop v0 v1 t) hl hY (by decide +kernel) (lg_le (List.forall_mem_cons.mpr ⟨rfl, List.forall_mem_cons.mpr ⟨rfl, fun _ h => absurd h List.not_mem_nil⟩⟩) (Nat.le_of_ble_eq_true rfl)) (lv_args_cat (List.forall_mem_cons.mpr ⟨rfl, List.forall_mem_cons.mpr ⟨rfl, fun _ h => absurd h List.not_mem_nil⟩⟩)) ?_
  intro X ad0 hln hC hnL hrt hnm hT hmd
  subst hln
  have hG := hC.1
  rw [lv_args_s (List.forall_mem_cons.mpr ⟨rfl, List.forall_mem_cons.mpr ⟨rfl, fun _ h => absurd h List.not_mem_nil⟩⟩)]
  show GC X Y (cM Y X 3 t ad0 rI) _ t 0 [(0, .ref v0), (1, .int v1)] []
  unfold fX0_stop
  refine gc_aload_n hG (v := .ref v0) (refV_a _) dX0_stop_0 rfl rfl ?_
  refine gc_iload_n hG dX0_stop_1 rfl rfl ?_
  refine gc_gd (fun hk => ?_)
  refine gc_callV (f := fX0_isActor v0 v1 t) (As := [.int v1]) (rest := []) (n := 1) (d' := 1) (b := v0) hC hnL (wX0_isActor (gLn X) Y hl hY v0 v1 t) hk (ci := 0) rfl dX0_stop_2 q366 q368 qs0 q74 q369 ⟨by decide +kernel, by decide +kernel⟩ rfl (by decide) (by decide) (Nat.le_of_ble_eq_true rfl) (kn_I (fun r1 s2 => ?_)) kx_I
  refine gc_if_ne hG (tgt := 10) dX0_stop_5 (by decide) ?_ ?_
  · refine gc_iconst hG (-1 : Int32) dX0_stop_8 (by decide) ?_
    exact gc_iret hC hrt rfl rfl dX0_stop_9
  · refine gc_aload_n hG (v := .ref v0) (refV_a _) dX0_stop_10 rfl rfl ?_
    refine gc_gd (fun hk => ?_)
    refine gc_get hC (ci := 0) (j := 0) (v := vr (cR s2 1 v0)) hk dX0_stop_11 rfl (by decide) in_X0 q224 (fun _ h => h) rfl ?_
    refine gc_letr (fun x3 h_ => ?_)
    refine gc_rv (fun a4 h_ => ?_)
    subst h_
    refine gc_gd (fun hk => ?_)
    refine gc_getN hC (ci := 1) (j := 0) (v := vr (cR s2 6 a4)) hk dX0_stop_14 rfl (by decide) in_X1 q160 (fun _ h => h) rfl ?_
    refine gc_letr (fun x5 h_ => ?_)
    refine gc_iload_n hG dX0_stop_17 rfl rfl ?_
    refine gc_rv (fun a6 h_ => ?_)
    subst h_
    refine gc_gd (fun hk => ?_)
    refine gc_aald hC hk.1 (by decide) (by decide) (t0 := 3) rfl hk.2 dX0_stop_18 ?_
    refine gc_letr (fun x7 h_ => ?_)
    refine gc_rv (fun a8 h_ => ?_)
    subst h_
    refine gc_gd (fun hk => ?_)
    refine gc_getN hC (ci := 4) (j := 7) (v := .int (cI s2 33 a8)) hk dX0_stop_19 rfl (by decide) in_X5 q302 (fun _ h => h) rfl ?_
    refine gc_letv (fun x9 h_ => ?_)
    refine gc_if_ne hG (tgt := 28) dX0_stop_22 (by decide) ?_ ?_
    · refine gc_bipush hG (-5 : Int32) dX0_stop_25 (by decide) ?_
      exact gc_iret hC hrt rfl rfl dX0_stop_27
    · refine gc_aload_n hG (v := .ref v0) (refV_a _) dX0_stop_28 rfl rfl ?_
      refine gc_gd (fun hk => ?_)
      refine gc_get hC (ci := 0) (j := 0) (v := vr (cR s2 1 v0)) hk dX0_stop_29 rfl (by decide) in_X0 q224 (fun _ h => h) rfl ?_
      refine gc_letr (fun x10 h_ => ?_)
      refine gc_rv (fun a11 h_ => ?_)
      subst h_
      refine gc_gd (fun hk => ?_)
      refine gc_callV (f := fX1_liveOnes a11 s2) (As := []) (rest := []) (n := 0) (d' := 1) (b := a11) hC hnL (wX1_liveOnes (gLn X) Y hl hY a11 s2) hk (ci := 1) rfl dX0_stop_32 q626 q627 q628 q75 q629 ⟨by decide +kernel, by decide +kernel⟩ rfl (by decide) (by decide) (Nat.le_of_ble_eq_true rfl) (kn_I (fun r12 s13 => ?_)) kx_I
      refine gc_callS (f := fJ5_bitCount r12 s13) (As := [.int r12]) (rest := []) (n := 1) (d' := 1) hC hnL (wJ5_bitCount (gLn X) Y hl hY r12 s13) dX0_stop_35 q630 q631 q89 q632 ⟨by decide +kernel, by decide +kernel⟩ rfl (by decide) (by decide) (Nat.le_of_ble_eq_true rfl) (kn_I (fun r14 s15 => ?_)) kx_I
      refine gc_istore_n hG dX0_stop_38 rfl (Nat.le_of_ble_eq_true rfl) (lv' := [(0, _), (1, _), (2, _)]) rfl ?_
      refine gc_aload_n hG (v := .ref v0) (refV_a _) dX0_stop_39 rfl rfl ?_
      refine gc_gd (fun hk => ?_)
      refine gc_get hC (ci := 0) (j := 0) (v := vr (cR s15 1 v0)) hk dX0_stop_40 rfl (by decide) in_X0 q224 (fun _ h => h) rfl ?_
      refine gc_letr (fun x16 h_ => ?_)
      refine gc_aload_n hG (v := .ref v0) (refV_a _) dX0_stop_43 rfl rfl ?_
      refine gc_gd (fun hk => ?_)
      refine gc_get hC (ci := 0) (j := 0) (v := vr (cR s15 1 v0)) hk dX0_stop_44 rfl (by decide) in_X0 q224 (fun _ h => h) rfl ?_
      refine gc_letr (fun x17 h_ => ?_)
      refine gc_rv (fun a18 h_ => ?_)
      subst h_
      refine gc_gd (fun hk => ?_)
      refine gc_getN hC (ci := 1) (j := 0) (v := vr (cR s15 6 a18)) hk dX0_stop_47 rfl (by decide) in_X1 q160 (fun _ h => h) rfl ?_
      refine gc_letr (fun x19 h_ => ?_)
      refine gc_iload_n hG dX0_stop_50 rfl rfl ?_
      refine gc_rv (fun a20 h_ => ?_)
      subst h_
      refine gc_gd (fun hk => ?_)
      refine gc_aald hC hk.1 (by decide) (by decide) (t0 := 3) rfl hk.2 dX0_stop_51 ?_
      refine gc_letr (fun x21 h_ => ?_)
      refine gc_rv (fun a22 h_ => ?_)
      subst h_
      refine gc_gd (fun hk => ?_)
      refine gc_callV (f := fX1_stops 13 a22 x21 s15) (As := [vr x21]) (rest := []) (n := 1) (d' := (5 + 2 * 13)) (b := a22) hC hnL (wX1_stops 13 (gLn X) Y hl hY a22 x21 s15) hk (ci := 1) rfl dX0_stop_52 q636 q637 q638 q75 q639 ⟨by decide +kernel, by decide +kernel⟩ rfl (by decide) (by decide) (Nat.le_of_ble_eq_true rfl) (kn_V (fun r23 s24 => ?_)) kx_V
      refine gc_iload_n hG dX0_stop_55 rfl rfl ?_
      refine gc_aload_n hG (v := .ref v0) (refV_a _) dX0_stop_56 rfl rfl ?_
      refine gc_gd (fun hk => ?_)
      refine gc_get hC (ci := 0) (j := 0) (v := vr (cR s24 1 v0)) hk dX0_stop_57 rfl (by decide) in_X0 q224 (fun _ h => h) rfl ?_
      refine gc_letr (fun x25 h_ => ?_)
      refine gc_rv (fun a26 h_ => ?_)
      subst h_
      refine gc_gd (fun hk => ?_)
      refine gc_callV (f := fX1_liveOnes a26 s24) (As := []) (rest := [.int r14]) (n := 0) (d' := 1) (b := a26) hC hnL (wX1_liveOnes (gLn X) Y hl hY a26 s24) hk (ci := 1) rfl dX0_stop_60 q626 q627 q628 q75 q629 ⟨by decide +kernel, by decide +kernel⟩ rfl (by decide) (by decide) (Nat.le_of_ble_eq_true rfl) (kn_I (fun r27 s28 => ?_)) kx_I
      refine gc_callS (f := fJ5_bitCount r27 s28) (As := [.int r27]) (rest := [.int r14]) (n := 1) (d' := 1) hC hnL (wJ5_bitCount (gLn X) Y hl hY r27 s28) dX0_stop_63 q630 q631 q89 q632 ⟨by decide +kernel, by decide +kernel⟩ rfl (by decide) (by decide) (Nat.le_of_ble_eq_true rfl) (kn_I (fun r29 s30 => ?_)) kx_I
      refine gc_isub hG dX0_stop_66 ?_
      exact gc_iret hC hrt rfl rfl dX0_stop_67
def fX1_isLive (v0 : Nat) (v1 : Int32) (t : cS) : Option (Int32 × cS) :=
  if v1 < 0 then
    (some ((nI 0), t))
  else
    gd (cK t v0 = 2) (
    letv (cI t 7 v0) (fun x1 =>
    if v1 < x1 then
      gd (cK t v0 = 2) (
      letv (cR t 6 v0) (fun x2 =>
      rv x2 (fun a3 =>
      gd (cK t a3 = 23 ∧ cIn t a3 v1) (
      letv (cR t (er (v1).toNatClampNeg) a3) (fun x4 =>
      rv x4 (fun a5 =>
      gd (cK t a5 = 5) (
      letv (cI t 33 a5) (fun x6 =>
      if x6 = 0 then
        (some ((nI 0), t))
      else
        (some ((nI 1), t))
      )
      )
      )
      )
      )
      )
      )
      )
    else
      (some ((nI 0), t))
    )
    )
theorem mfX1_isLive (v0 : Nat) (v1 : Int32) (t : cS) : MO t (fX1_isLive v0 v1 t) := by
  unfold fX1_isLive
  refine mo_ite ?_ ?_
  · exact mo_some
  · refine mo_gd ?_
    refine mo_letv (fun _ => ?_)
    refine mo_ite ?_ ?_
    · refine mo_gd ?_
      refine mo_letv (fun _ => ?_)
      refine mo_rv (fun _ => ?_)
      refine mo_gd ?_
      refine mo_letv (fun _ => ?_)
      refine mo_rv (fun _ => ?_)
      refine mo_gd ?_
      refine mo_letv (fun _ => ?_)
      refine mo_ite ?_ ?_
      · exact mo_some
      · exact mo_some
    · exact mo_some
set_option maxHeartbeats 4000000 in
theorem wX1_isLive (l : Launch) (Y : cY) (hl : l.stackTraces = false) (hY : ∀ q, q < Y.2.2.2.2.size → ¬ Y.2.2.2.1 q) (v0 : Nat) (v1 : Int32) (t : cS) : cFn l Y yX1_isLive (ws_ yX1_isLive cX1_isLive 2 (some .boolean)) 1 [.ref v0, .int v1] t (fX1_isLive v0 v1 t) rI := by
  refine cmet (av := [.ref v0, .int v1]) (mfX1_isLive v0 v1 t) hl hY (by decide +kernel) (lg_le (List.forall_mem_cons.mpr ⟨rfl, List.forall_mem_cons.mpr ⟨rfl, fun _ h => absurd h List.not_mem_nil⟩⟩) (Nat.le_of_ble_eq_true rfl)) (lv_args_cat (List.forall_mem_cons.mpr ⟨rfl, List.forall_mem_cons.mpr ⟨rfl, fun _ h => absurd h List.not_mem_nil⟩⟩)) ?_
  intro X ad0 hln hC hnL hrt hnm hT hmd
  subst hln
  have hG := hC.1
  rw [lv_args_s (List.forall_mem_cons.mpr ⟨rfl, List.forall_mem_cons.mpr ⟨rfl, fun _ h => absurd h List.not_mem_nil⟩⟩)]
  show GC X Y (cM Y X 2 t ad0 rI) _ t 0 [(0, .ref v0), (1, .int v1)] []
  unfold fX1_isLive
  refine gc_iload_n hG dX1_isLive_0 rfl rfl ?_
  refine gc_if_lt hG (tgt := 28) dX1_isLive_1 (by decide) ?_ ?_
  · refine gc_iconst hG (nI 0) dX1_isLive_28 (by decide) ?_
    exact gc_iret hC hrt (by decide) rfl dX1_isLive_29
  · refine gc_iload_n hG dX1_isLive_4 rfl rfl ?_
    refine gc_aload_n hG (v := .ref v0) (refV_a _) dX1_isLive_5 rfl rfl ?_
    refine gc_gd (fun hk => ?_)
    refine gc_get hC (ci := 1) (j := 1) (v := .int (cI t 7 v0)) hk dX1_isLive_6 rfl (by decide) in_X1 q162 (fun _ h => h) rfl ?_
    refine gc_letv (fun x1 h_ => ?_)
    refine gc_icmp_ge hG (tgt := 28) dX1_isLive_9 (by decide) ?_ ?_
    · refine gc_aload_n hG (v := .ref v0) (refV_a _) dX1_isLive_12 rfl rfl ?_
      refine gc_gd (fun hk => ?_)
      refine gc_get hC (ci := 1) (j := 0) (v := vr (cR t 6 v0)) hk dX1_isLive_13 rfl (by decide) in_X1 q158 (fun _ h => h) rfl ?_
      refine gc_letr (fun x2 h_ => ?_)
      refine gc_iload_n hG dX1_isLive_16 rfl rfl ?_
      refine gc_rv (fun a3 h_ => ?_)
      subst h_
      refine gc_gd (fun hk => ?_)
      refine gc_aald hC hk.1 (by decide) (by decide) (t0 := 3) rfl hk.2 dX1_isLive_17 ?_
      refine gc_letr (fun x4 h_ => ?_)
      refine gc_rv (fun a5 h_ => ?_)
      subst h_
      refine gc_gd (fun hk => ?_)
      refine gc_getN hC (ci := 4) (j := 7) (v := .int (cI t 33 a5)) hk dX1_isLive_18 rfl (by decide) in_X5 q300 (fun _ h => h) rfl ?_
      refine gc_letv (fun x6 h_ => ?_)
      refine gc_if_eq hG (tgt := 28) dX1_isLive_21 (by decide) ?_ ?_
      · refine gc_iconst hG (nI 0) dX1_isLive_28 (by decide) ?_
        exact gc_iret hC hrt (by decide) rfl dX1_isLive_29
      · refine gc_iconst hG (nI 1) dX1_isLive_24 (by decide) ?_
        refine gc_goto hG (tgt := 29) dX1_isLive_25 (by decide) ?_
        exact gc_iret hC hrt (by decide) rfl dX1_isLive_29
    · refine gc_iconst hG (nI 0) dX1_isLive_28 (by decide) ?_
      exact gc_iret hC hrt (by decide) rfl dX1_isLive_29
def fX1_next_L2 (v0 : Nat) (kx : cS → Option (Option Nat × cS)) : Nat → Int32 → cS → Option (Option Nat × cS)
  | 0, _, _ => none
  | k + 1, v1, t =>
    if (nI 12) < v1 then
      kx t
    else
      gd (cK t v0 = 2) (
      letv (cI t 8 v0) (fun x1 =>
      letv ((irm ((x1 + v1) + (nI 12)) (nI 12))) (fun y2 =>
      gd (cK t v0 = 2) (
      ob (fX1_isLive v0 y2 t) (fun r3 s4 =>
      jn (fun  (t5 : cS) =>
        letv (v1 + (nI 1)) (fun y7 =>
        fX1_next_L2 v0 kx k y7 t5
        )
        ) (fun (j6 : cS → Option (Option Nat × cS)) =>
        if r3 = 0 then
          j6 s4
        else
          gd (cK s4 v0 = 2) (
          letv (cR s4 6 v0) (fun x8 =>
          rv x8 (fun a9 =>
          gd (cK s4 a9 = 23 ∧ cIn s4 a9 y2) (
          letv (cR s4 (er (y2).toNatClampNeg) a9) (fun x10 =>
          rv x10 (fun a11 =>
          gd (cK s4 a11 = 5) (
          letv (cR s4 37 a11) (fun x12 =>
          rv x12 (fun a13 =>
          gd (cK s4 a13 = 3) (
          letv (cI s4 24 a13) (fun x14 =>
          if 0 < x14 then
            gd (cK s4 v0 = 2) (
            letv (cR s4 6 v0) (fun x15 =>
            rv x15 (fun a16 =>
            gd (cK s4 a16 = 23 ∧ cIn s4 a16 y2) (
            letv (cR s4 (er (y2).toNatClampNeg) a16) (fun x17 =>
            (some (x17, s4))
            )
            )
            )
            )
            )
          else
            j6 s4
          )
          )
          )
          )
          )
          )
          )
          )
          )
          )
          )
        )
      )
      )
      )
      )
      )
theorem mfX1_next_L2 (v0 : Nat) (kx : cS → Option (Option Nat × cS)) (hkx : ∀  (t : cS), MO t (kx t)) : ∀ (k : Nat) (v1 : Int32) (t : cS), MO t (fX1_next_L2 v0 kx k v1 t) := by
  intro k
  induction k with
  | zero => intro v1 t; exact mo_none
  | succ k ih =>
    intro v1 t
    rw [fX1_next_L2]
    refine mo_ite ?_ ?_
    · exact hkx _
    · refine mo_gd ?_
      refine mo_letv (fun _ => ?_)
      refine mo_letv (fun _ => ?_)
      refine mo_gd ?_
      refine mo_ob (by apply mfX1_isLive) (fun _ _ => ?_)
      refine mo_jn (fun j_ => ∀ ( t5 : cS ), MO t5 (j_ t5)) (fun t5 => ?_) (fun j6 hj6 => ?_)
      · refine mo_letv (fun _ => ?_)
        exact ih _ _
      · refine mo_ite ?_ ?_
        · exact hj6 _
        · refine mo_gd ?_
          refine mo_letv (fun _ => ?_)
          refine mo_rv (fun _ => ?_)
          refine mo_gd ?_
          refine mo_letv (fun _ => ?_)
          refine mo_rv (fun _ => ?_)
          refine mo_gd ?_
          refine mo_letv (fun _ => ?_)
          refine mo_rv (fun _ => ?_)
          refine mo_gd ?_
          refine mo_letv (fun _ => ?_)
          refine mo_ite ?_ ?_
          · refine mo_gd ?_
            refine mo_letv (fun _ => ?_)
            refine mo_rv (fun _ => ?_)
            refine mo_gd ?_
            refine mo_letv (fun _ => ?_)
            exact mo_some
          · exact hj6 _
set_option maxHeartbeats 4000000 in
theorem gfX1_next_L2 {X : gCx} {Y : cY} {s0 : cS} {ad0 : Nat → Nat} (hC : cOk X Y RX1 cX1_next 2) (hl : (gLn X).stackTraces = false) (hY : ∀ q, q < Y.2.2.2.2.size → ¬ Y.2.2.2.1 q) (hnL : gLoc X = 3) (hrt : gRet X = (some (.object "ActorTrees$Actor"))) (hnm : X.2.2.2.2.2.2.2.2.1.name = "next") (hT : gTab X = []) (hmd : (gSt X).methodNamed? yX1_next = some (gMe X)) (v0 : Nat) (kx : cS → Option (Option Nat × cS)) (hkx : ∀  (t : cS), GC X Y (cM Y X 3 s0 ad0 rR) (kx t) t 57 [] []) : ∀ (k : Nat) (v1 : Int32) (t : cS), GC X Y (cM Y X 3 s0 ad0 rR) (fX1_next_L2 v0 kx k v1 t) t 2 [(0, .ref v0), (1, .int v1)] [] := by
  have hG := hC.1
  intro k
  induction k with
  | zero => intro v1 t; exact gc_none
  | succ k ih =>
    intro v1 t
    rw [fX1_next_L2]
    refine gc_iload_n hG dX1_next_2 rfl rfl ?_
    refine gc_bipush hG (nI 12) dX1_next_3 (by decide) ?_
    refine gc_icmp_gt hG (tgt := 57) dX1_next_5 (by decide) ?_ ?_
    · refine gc_sub [] rfl ?_
      exact hkx t
    · refine gc_aload_n hG (v := .ref v0) (refV_a _) dX1_next_8 rfl rfl ?_
      refine gc_gd (fun hk => ?_)
      refine gc_get hC (ci := 1) (j := 2) (v := .int (cI t 8 v0)) hk dX1_next_9 rfl (by decide) in_X1 q166 (fun _ h => h) rfl ?_
      refine gc_letv (fun x1 h_ => ?_)
      refine gc_iload_n hG dX1_next_12 rfl rfl ?_
      refine gc_iadd hG dX1_next_13 ?_
      refine gc_bipush hG (nI 12) dX1_next_14 (by decide) ?_
      refine gc_iadd hG dX1_next_16 ?_
      refine gc_bipush hG (nI 12) dX1_next_17 (by decide) ?_
      refine gc_irem hG dX1_next_19 (by decide) ?_
      refine gc_letv (fun y2 hy2 => ?_)
      refine gc_istore_n hG dX1_next_20 rfl (Nat.le_of_ble_eq_true rfl) (lv' := [(0, _), (1, _), (2, _)]) rfl ?_
      refine gc_aload_n hG (v := .ref v0) (refV_a _) dX1_next_21 rfl rfl ?_
      refine gc_iload_n hG dX1_next_22 rfl rfl ?_
      refine gc_gd (fun hk => ?_)
      refine gc_callV (f := fX1_isLive v0 y2 t) (As := [.int y2]) (rest := []) (n := 1) (d' := 1) (b := v0) hC hnL (wX1_isLive (gLn X) Y hl hY v0 y2 t) hk (ci := 1) rfl dX1_next_23 q706 q707 q708 q75 q709 ⟨by decide +kernel, by decide +kernel⟩ rfl (by decide) (by decide) (Nat.le_of_ble_eq_true rfl) (kn_I (fun r3 s4 => ?_)) kx_I
      refine gc_jn (fun j_ => ∀  (t5 : cS), GC X Y (cM Y X 3 s0 ad0 rR) (j_ t5) t5 51 [(0, .ref v0), (1, .int v1)] []) (fun t5 => ?_) (fun j6 hj6 => ?_)
      · refine gc_letiinc hG (c := (nI 1)) (lv' := fun y7 => [(0, .ref v0), (1, .int y7)]) dX1_next_51 rfl (by decide) (Nat.le_of_ble_eq_true rfl) (fun _ => rfl) (fun y7 => ?_)
        refine gc_goto hG (tgt := 2) dX1_next_54 (by decide) ?_
        exact ih y7 t5
      · refine gc_if_eq hG (tgt := 51) dX1_next_26 (by decide) ?_ ?_
        · refine gc_sub [0, 1] rfl ?_
          exact hj6 s4
        · refine gc_aload_n hG (v := .ref v0) (refV_a _) dX1_next_29 rfl rfl ?_
          refine gc_gd (fun hk => ?_)
          refine gc_get hC (ci := 1) (j := 0) (v := vr (cR s4 6 v0)) hk dX1_next_30 rfl (by decide) in_X1 q158 (fun _ h => h) rfl ?_
          refine gc_letr (fun x8 h_ => ?_)
          refine gc_iload_n hG dX1_next_33 rfl rfl ?_
          refine gc_rv (fun a9 h_ => ?_)
          subst h_
          refine gc_gd (fun hk => ?_)
          refine gc_aald hC hk.1 (by decide) (by decide) (t0 := 3) rfl hk.2 dX1_next_34 ?_
          refine gc_letr (fun x10 h_ => ?_)
          refine gc_rv (fun a11 h_ => ?_)
          subst h_
          refine gc_gd (fun hk => ?_)
          refine gc_getN hC (ci := 4) (j := 11) (v := vr (cR s4 37 a11)) hk dX1_next_35 rfl (by decide) in_X5 q313 (fun _ h => h) rfl ?_
          refine gc_letr (fun x12 h_ => ?_)
          refine gc_rv (fun a13 h_ => ?_)
          subst h_
          refine gc_gd (fun hk => ?_)
          refine gc_getN hC (ci := 2) (j := 3) (v := .int (cI s4 24 a13)) hk dX1_next_38 rfl (by decide) in_X2 q135 (fun _ h => h) rfl ?_
          refine gc_letv (fun x14 h_ => ?_)
          refine gc_if_le hG (tgt := 51) dX1_next_41 (by decide) ?_ ?_
          · refine gc_aload_n hG (v := .ref v0) (refV_a _) dX1_next_44 rfl rfl ?_
            refine gc_gd (fun hk => ?_)
            refine gc_get hC (ci := 1) (j := 0) (v := vr (cR s4 6 v0)) hk dX1_next_45 rfl (by decide) in_X1 q158 (fun _ h => h) rfl ?_
            refine gc_letr (fun x15 h_ => ?_)
            refine gc_iload_n hG dX1_next_48 rfl rfl ?_
            refine gc_rv (fun a16 h_ => ?_)
            subst h_
            refine gc_gd (fun hk => ?_)
            refine gc_aald hC hk.1 (by decide) (by decide) (t0 := 3) rfl hk.2 dX1_next_49 ?_
            refine gc_letr (fun x17 h_ => ?_)
            exact gc_aret hC hrt (Or.inl ⟨_, rfl⟩) (refV_x _) rfl dX1_next_50
          · refine gc_sub [0, 1] rfl ?_
            exact hj6 s4
def fX1_next (v0 : Nat) (t : cS) : Option (Option Nat × cS) :=
  fX1_next_L2 v0 (fun  (t18 : cS) =>
    (some (none, t18))
    ) FU (nI 1) t
theorem mfX1_next (v0 : Nat) (t : cS) : MO t (fX1_next v0 t) := by
  unfold fX1_next
  refine mfX1_next_L2 _ _ (fun _ => ?_) _ _ _
  exact mo_some
set_option maxHeartbeats 4000000 in
theorem wX1_next (l : Launch) (Y : cY) (hl : l.stackTraces = false) (hY : ∀ q, q < Y.2.2.2.2.size → ¬ Y.2.2.2.1 q) (v0 : Nat) (t : cS) : cFn l Y yX1_next (ws_ yX1_next cX1_next 3 (some (.object "ActorTrees$Actor"))) 2 [.ref v0] t (fX1_next v0 t) rR := by
  refine cmet (av := [.ref v0]) (mfX1_next v0 t) hl hY (by decide +kernel) (lg_le (List.forall_mem_cons.mpr ⟨rfl, fun _ h => absurd h List.not_mem_nil⟩) (Nat.le_of_ble_eq_true rfl)) (lv_args_cat (List.forall_mem_cons.mpr ⟨rfl, fun _ h => absurd h List.not_mem_nil⟩)) ?_
  intro X ad0 hln hC hnL hrt hnm hT hmd
  subst hln
  have hG := hC.1
  rw [lv_args_s (List.forall_mem_cons.mpr ⟨rfl, fun _ h => absurd h List.not_mem_nil⟩)]
  show GC X Y (cM Y X 3 t ad0 rR) _ t 0 [(0, .ref v0)] []
  unfold fX1_next
  refine gc_iconst hG (nI 1) dX1_next_0 (by decide) ?_
  refine gc_istore_n hG dX1_next_1 rfl (Nat.le_of_ble_eq_true rfl) (lv' := [(0, _), (1, _)]) rfl ?_
  refine gfX1_next_L2 (s0 := t) (ad0 := ad0) hC hl hY hnL hrt hnm hT hmd v0 _ (fun t18 => ?_) FU (nI 1) t
  refine gc_null hG dX1_next_57 ?_
  exact gc_aret hC hrt (Or.inl ⟨_, rfl⟩) (Or.inl rfl) rfl dX1_next_58
