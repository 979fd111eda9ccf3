/-! the component: walks, by program (gen/cgen.py) -/
def fX3_holds (v0 : Nat) (v1 : Option Nat) (v2 : Option Nat) (t : cS) : Option ((Unit ⊕ Nat) × cS) :=
  rv v2 (fun a1 =>
  gd (cK t a1 = 6) (
  letv (cI t 44 a1) (fun x2 =>
  if (irm x2 (nI 2)) = 0 then
    gd (cK t v0 = 4) (
    letv (cR t 25 v0) (fun x3 =>
    rv x3 (fun a4 =>
    gd (cK t a4 = 2) (
    ob (fX1_unstashes a4 v1 t) (fun r5 s6 =>
    (some ((.inl ()), s6))
    )
    )
    )
    )
    )
  else
    rv v1 (fun a7 =>
    gd (cK t a7 = 5) (
    obx (fX5_stashes a7 (some a1) t) (fun r8 s9 =>
      (some ((.inl ()), s9))
    ) (fun e10 s11 =>
      gd (cK s11 e10 = 11) (
      some (.inr e10, s11)
      )
    )
    )
    )
  )
  )
  )
theorem mfX3_holds (v0 : Nat) (v1 : Option Nat) (v2 : Option Nat) (t : cS) : MO t (fX3_holds v0 v1 v2 t) := by
  unfold fX3_holds
  refine mo_rv (fun _ => ?_)
  refine mo_gd ?_
  refine mo_letv (fun _ => ?_)
  refine mo_ite ?_ ?_
  · refine mo_gd ?_
    refine mo_letv (fun _ => ?_)
    refine mo_rv (fun _ => ?_)
    refine mo_gd ?_
    refine mo_ob (by apply mfX1_unstashes) (fun _ _ => ?_)
    exact mo_some
  · refine mo_rv (fun _ => ?_)
    refine mo_gd ?_
    refine mo_obx (by apply mfX5_stashes) (fun _ _ => ?_) (fun _ _ => ?_)
    · exact mo_some
    · refine mo_gd ?_
      exact mo_some
set_option maxHeartbeats 4000000 in
theorem wX3_holds (l : Launch) (Y : cY) (hl : l.stackTraces = false) (hY : ∀ q, q < Y.2.2.2.2.size → ¬ Y.2.2.2.1 q) (v0 : Nat) (v1 : Option Nat) (v2 : Option Nat) (t : cS) : cFn l Y yX3_holds (ws_ yX3_holds cX3_holds 3 none) 6 [.ref v0, vr v1, vr v2] t (fX3_holds v0 v1 v2 t) rVx := by
  refine cmet (av := [.ref v0, vr v1, vr v2]) (mfX3_holds v0 v1 v2 t) hl hY (by decide +kernel) (lg_le (List.forall_mem_cons.mpr ⟨rfl, List.forall_mem_cons.mpr ⟨(cat_vr _), List.forall_mem_cons.mpr ⟨(cat_vr _), fun _ h => absurd h List.not_mem_nil⟩⟩⟩) (Nat.le_of_ble_eq_true rfl)) (lv_args_cat (List.forall_mem_cons.mpr ⟨rfl, List.forall_mem_cons.mpr ⟨(cat_vr _), List.forall_mem_cons.mpr ⟨(cat_vr _), fun _ h => absurd h List.not_mem_nil⟩⟩⟩)) ?_
  intro X ad0 hln hC hnL hrt hnm hT hmd
  subst hln
  have hG := hC.1
  rw [lv_args_s (List.forall_mem_cons.mpr ⟨rfl, List.forall_mem_cons.mpr ⟨(cat_vr _), List.forall_mem_cons.mpr ⟨(cat_vr _), fun _ h => absurd h List.not_mem_nil⟩⟩⟩)]
  show GC X Y (cM Y X 3 t ad0 rVx) _ t 0 [(0, .ref v0), (1, vr v1), (2, vr v2)] []
  unfold fX3_holds
  refine gc_aload_n hG (v := vr v2) (refV_x _) dX3_holds_0 rfl rfl ?_
  refine gc_rv (fun a1 h_ => ?_)
  subst h_
  refine gc_gd (fun hk => ?_)
  refine gc_getN hC (ci := 5) (j := 1) (v := .int (cI t 44 a1)) hk dX3_holds_1 rfl (by decide) in_X7 q381 (fun _ h => h) rfl ?_
  refine gc_letv (fun x2 h_ => ?_)
  refine gc_iconst hG (nI 2) dX3_holds_4 (by decide) ?_
  refine gc_irem hG dX3_holds_5 (by decide) ?_
  refine gc_if_eq hG (tgt := 17) dX3_holds_6 (by decide) ?_ ?_
  · refine gc_aload_n hG (v := .ref v0) (refV_a _) dX3_holds_17 rfl rfl ?_
    refine gc_gd (fun hk => ?_)
    refine gc_get hC (ci := 3) (j := 0) (v := vr (cR t 25 v0)) hk dX3_holds_18 rfl (by decide) in_X3 q153 (fun _ h => h) rfl ?_
    refine gc_letr (fun x3 h_ => ?_)
    refine gc_aload_n hG (v := vr v1) (refV_x _) dX3_holds_21 rfl rfl ?_
    refine gc_rv (fun a4 h_ => ?_)
    subst h_
    refine gc_gd (fun hk => ?_)
    refine gc_callV (f := fX1_unstashes a4 v1 t) (As := [vr v1]) (rest := []) (n := 1) (d' := 5) (b := a4) hC hnL (wX1_unstashes (gLn X) Y hl hY a4 v1 t) hk (ci := 1) rfl dX3_holds_22 q807 q808 q809 q75 q810 ⟨by decide +kernel, by decide +kernel⟩ rfl (by decide) (by decide) (Nat.le_of_ble_eq_true rfl) (kn_V (fun r5 s6 => ?_)) kx_V
    exact gc_vret hC hrt rfl dX3_holds_25
  · refine gc_aload_n hG (v := vr v1) (refV_x _) dX3_holds_9 rfl rfl ?_
    refine gc_aload_n hG (v := .ref a1) (refV_a _) dX3_holds_10 rfl rfl ?_
    refine gc_rv (fun a7 h_ => ?_)
    subst h_
    refine gc_gd (fun hk => ?_)
    refine gc_callV (f := fX5_stashes a7 (some a1) t) (As := [.ref a1]) (rest := []) (n := 1) (d' := 5) (b := a7) hC hnL (wX5_stashes (gLn X) Y hl hY a7 (some a1) t) hk (ci := 4) rfl dX3_holds_11 q783 q784 q785 q79 q786 ⟨by decide +kernel, by decide +kernel⟩ rfl (by decide) (by decide) (Nat.le_of_ble_eq_true rfl) (kn_Vx (fun r8 s9 => ?_)) (kx_Vx (fun e10 s11 => ?_))
    · refine gc_goto hG (tgt := 25) dX3_holds_14 (by decide) ?_
      exact gc_vret hC hrt rfl dX3_holds_25
    · refine gx_gd (fun hk => ?_)
      exact gx_outR hC hk (ci := 10) rfl rfl (by rw [hT]; intro z hz; cases hz)
def fX3_lambda_of_0 (v0 : Option Nat) (v1 : Option Nat) (t : cS) : Option (Unit × cS) :=
  rv v0 (fun a1 =>
  gd (cK t a1 = 5) (
  letv (cI t 34 a1) (fun x2 =>
  rv v1 (fun a3 =>
  gd (cK t a3 = 6) (
  letv (cI t 44 a3) (fun x4 =>
  gd (cK t a1 = 5) (
  letv (sI t 34 a1 (x2 + x4)) (fun s5 =>
  (some ((), s5))
  )
  )
  )
  )
  )
  )
  )
  )
theorem mfX3_lambda_of_0 (v0 : Option Nat) (v1 : Option Nat) (t : cS) : MO t (fX3_lambda_of_0 v0 v1 t) := by
  unfold fX3_lambda_of_0
  refine mo_rv (fun _ => ?_)
  refine mo_gd ?_
  refine mo_letv (fun _ => ?_)
  refine mo_rv (fun _ => ?_)
  refine mo_gd ?_
  refine mo_letv (fun _ => ?_)
  refine mo_gd ?_
  refine mo_letS cMo_sI (fun _ => ?_)
  exact mo_some
set_option maxHeartbeats 4000000 in
theorem wX3_lambda_of_0 (l : Launch) (Y : cY) (hl : l.stackTraces = false) (hY : ∀ q, q < Y.2.2.2.2.size → ¬ Y.2.2.2.1 q) (v0 : Option Nat) (v1 : Option Nat) (t : cS) : cFn l Y yX3_lambda_of_0 (ws_ yX3_lambda_of_0 cX3_lambda_of_0 2 none) 1 [vr v0, vr v1] t (fX3_lambda_of_0 v0 v1 t) rV := by
  refine cmet (av := [vr v0, vr v1]) (mfX3_lambda_of_0 v0 v1 t) hl hY (by decide +kernel) (lg_le (List.forall_mem_cons.mpr ⟨(cat_vr _), List.forall_mem_cons.mpr ⟨(cat_vr _), fun _ h => absurd h List.not_mem_nil⟩⟩) (Nat.le_of_ble_eq_true rfl)) (lv_args_cat (List.forall_mem_cons.mpr ⟨(cat_vr _), List.forall_mem_cons.mpr ⟨(cat_vr _), fun _ h => absurd h List.not_mem_nil⟩⟩)) ?_
  intro X ad0 hln hC hnL hrt hnm hT hmd
  subst hln
  have hG := hC.1
  rw [lv_args_s (List.forall_mem_cons.mpr ⟨(cat_vr _), List.forall_mem_cons.mpr ⟨(cat_vr _), fun _ h => absurd h List.not_mem_nil⟩⟩)]
  show GC X Y (cM Y X 2 t ad0 rV) _ t 0 [(0, vr v0), (1, vr v1)] []
  unfold fX3_lambda_of_0
  refine gc_aload_n hG (v := vr v0) (refV_x _) dX3_lambda_of_0_0 rfl rfl ?_
  refine gc_dup hG dX3_lambda_of_0_1 (cat_vr _) ?_
  refine gc_rv (fun a1 h_ => ?_)
  subst h_
  refine gc_gd (fun hk => ?_)
  refine gc_getN hC (ci := 4) (j := 8) (v := .int (cI t 34 a1)) hk dX3_lambda_of_0_2 rfl (by decide) in_X5 q304 (fun _ h => h) rfl ?_
  refine gc_letv (fun x2 h_ => ?_)
  refine gc_aload_n hG (v := vr v1) (refV_x _) dX3_lambda_of_0_5 rfl rfl ?_
  refine gc_rv (fun a3 h_ => ?_)
  subst h_
  refine gc_gd (fun hk => ?_)
  refine gc_getN hC (ci := 5) (j := 1) (v := .int (cI t 44 a3)) hk dX3_lambda_of_0_6 rfl (by decide) in_X7 q381 (fun _ h => h) rfl ?_
  refine gc_letv (fun x4 h_ => ?_)
  refine gc_iadd hG dX3_lambda_of_0_9 ?_
  refine gc_gd (fun hk => ?_)
  have pt := pt_I (s := t) (f := 34) (a := a1) (x := (x2 + x4)) rfl
  refine gc_putN hC tyX5 tyX5_ok nmX5 hk dX3_lambda_of_0_10 (ci := 4) (j := 8) (Or.inl (by decide)) rfl (by decide) in_X5 q304 (fun _ h => h) rfl (tyX5_ok 8 (by decide)) (fun _ => rfl) (fun _ => rfl) pt.1.1 pt.1.2.1 pt.1.2.2.1 pt.1.2.2.2 pt.2.1 pt.2.2.1 pt.2.2.2 ?_
  refine gc_letS (fun s5 => ?_)
  exact gc_vret hC hrt rfl dX3_lambda_of_0_13
def fX3_lambda_of_1 (v0 : Nat) (v1 : Option Nat) (v2 : Option Nat) (t : cS) : Option (Unit × cS) :=
  gd (cK t v0 = 4) (
  letv (cR t 25 v0) (fun x1 =>
  rv x1 (fun a2 =>
  gd (cK t a2 = 2) (
  ob (fX1_stops 13 a2 v1 t) (fun r3 s4 =>
  (some ((), s4))
  )
  )
  )
  )
  )
theorem mfX3_lambda_of_1 (v0 : Nat) (v1 : Option Nat) (v2 : Option Nat) (t : cS) : MO t (fX3_lambda_of_1 v0 v1 v2 t) := by
  unfold fX3_lambda_of_1
  refine mo_gd ?_
  refine mo_letv (fun _ => ?_)
  refine mo_rv (fun _ => ?_)
  refine mo_gd ?_
  refine mo_ob (by apply mfX1_stops) (fun _ _ => ?_)
  exact mo_some
set_option maxHeartbeats 4000000 in
theorem wX3_lambda_of_1 (l : Launch) (Y : cY) (hl : l.stackTraces = false) (hY : ∀ q, q < Y.2.2.2.2.size → ¬ Y.2.2.2.1 q) (v0 : Nat) (v1 : Option Nat) (v2 : Option Nat) (t : cS) : cFn l Y yX3_lambda_of_1 (ws_ yX3_lambda_of_1 cX3_lambda_of_1 3 none) 32 [.ref v0, vr v1, vr v2] t (fX3_lambda_of_1 v0 v1 v2 t) rV := by
  refine cmet (av := [.ref v0, vr v1, vr v2]) (mfX3_lambda_of_1 v0 v1 v2 t) hl hY (by decide +kernel) (lg_le (List.forall_mem_cons.mpr ⟨rfl, List.forall_mem_cons.mpr ⟨(cat_vr _), List.forall_mem_cons.mpr ⟨(cat_vr _), fun _ h => absurd h List.not_mem_nil⟩⟩⟩) (Nat.le_of_ble_eq_true rfl)) (lv_args_cat (List.forall_mem_cons.mpr ⟨rfl, List.forall_mem_cons.mpr ⟨(cat_vr _), List.forall_mem_cons.mpr ⟨(cat_vr _), fun _ h => absurd h List.not_mem_nil⟩⟩⟩)) ?_
  intro X ad0 hln hC hnL hrt hnm hT hmd
  subst hln
  have hG := hC.1
  rw [lv_args_s (List.forall_mem_cons.mpr ⟨rfl, List.forall_mem_cons.mpr ⟨(cat_vr _), List.forall_mem_cons.mpr ⟨(cat_vr _), fun _ h => absurd h List.not_mem_nil⟩⟩⟩)]
  show GC X Y (cM Y X 3 t ad0 rV) _ t 0 [(0, .ref v0), (1, vr v1), (2, vr v2)] []
  unfold fX3_lambda_of_1
  refine gc_aload_n hG (v := .ref v0) (refV_a _) dX3_lambda_of_1_0 rfl rfl ?_
  refine gc_gd (fun hk => ?_)
  refine gc_get hC (ci := 3) (j := 0) (v := vr (cR t 25 v0)) hk dX3_lambda_of_1_1 rfl (by decide) in_X3 q153 (fun _ h => h) rfl ?_
  refine gc_letr (fun x1 h_ => ?_)
  refine gc_aload_n hG (v := vr v1) (refV_x _) dX3_lambda_of_1_4 rfl rfl ?_
  refine gc_rv (fun a2 h_ => ?_)
  subst h_
  refine gc_gd (fun hk => ?_)
  refine gc_callV (f := fX1_stops 13 a2 v1 t) (As := [vr v1]) (rest := []) (n := 1) (d' := (5 + 2 * 13)) (b := a2) hC hnL (wX1_stops 13 (gLn X) Y hl hY a2 v1 t) hk (ci := 1) rfl dX3_lambda_of_1_5 q960 q637 q638 q75 q639 ⟨by decide +kernel, by decide +kernel⟩ rfl (by decide) (by decide) (Nat.le_of_ble_eq_true rfl) (kn_V (fun r3 s4 => ?_)) kx_V
  exact gc_vret hC hrt rfl dX3_lambda_of_1_8
def fX3_passes_L2 (v0 : Nat) (v1 : Option Nat) (v2 : Option Nat) (kx : cS → Option (Unit × cS)) : Nat → Int32 → cS → Option (Unit × cS)
  | 0, _, _ => none
  | k + 1, v3, t =>
    gd (cK t v0 = 4) (
    letv (cR t 25 v0) (fun x1 =>
    rv x1 (fun a2 =>
    gd (cK t a2 = 2) (
    letv (cI t 7 a2) (fun x3 =>
    if v3 < x3 then
      gd (cK t v0 = 4) (
      letv (cR t 25 v0) (fun x4 =>
      rv x4 (fun a5 =>
      gd (cK t a5 = 2) (
      letv (cR t 6 a5) (fun x6 =>
      rv x6 (fun a7 =>
      gd (cK t a7 = 23 ∧ cIn t a7 v3) (
      letv (cR t (er (v3).toNatClampNeg) a7) (fun x8 =>
      rv x8 (fun a9 =>
      gd (cK t a9 = 5) (
      letv (cI t 27 a9) (fun x10 =>
      rv v1 (fun a11 =>
      gd (cK t a11 = 5) (
      letv (cI t 26 a11) (fun x12 =>
      jn (fun  (t13 : cS) =>
        letv (v3 + (nI 1)) (fun y15 =>
        fX3_passes_L2 v0 v1 v2 kx k y15 t13
        )
        ) (fun (j14 : cS → Option (Unit × cS)) =>
        if x10 = x12 then
          gd (cK t v0 = 4) (
          letv (cR t 25 v0) (fun x16 =>
          rv x16 (fun a17 =>
          gd (cK t a17 = 2) (
          letv (cR t 6 a17) (fun x18 =>
          rv x18 (fun a19 =>
          gd (cK t a19 = 23 ∧ cIn t a19 v3) (
          letv (cR t (er (v3).toNatClampNeg) a19) (fun x20 =>
          rv x20 (fun a21 =>
          gd (cK t a21 = 5) (
          letv (cI t 33 a21) (fun x22 =>
          if x22 = 0 then
            j14 t
          else
            gd (cK t v0 = 4) (
            letv (cR t 25 v0) (fun x23 =>
            gd (cK t v0 = 4) (
            letv (cR t 25 v0) (fun x24 =>
            rv x24 (fun a25 =>
            gd (cK t a25 = 2) (
            letv (cR t 6 a25) (fun x26 =>
            rv x26 (fun a27 =>
            gd (cK t a27 = 23 ∧ cIn t a27 v3) (
            letv (cR t (er (v3).toNatClampNeg) a27) (fun x28 =>
            letv (sN t 6 0 2) (fun s29 =>
            gd (cK s29 a11 = 5) (
            letv (cI s29 26 a11) (fun x30 =>
            rv v2 (fun a31 =>
            gd (cK s29 a31 = 6) (
            letv (cI s29 44 a31) (fun x32 =>
            ob (fX7_init (cn t) x30 x32 s29) (fun r33 s34 =>
            rv x23 (fun a35 =>
            gd (cK s34 a35 = 2) (
            ob (fX1_sends a35 x28 (some (cn t)) s34) (fun r36 s37 =>
            (some ((), s37))
            )
            )
            )
            )
            )
            )
            )
            )
            )
            )
            )
            )
            )
            )
            )
            )
            )
            )
            )
            )
          )
          )
          )
          )
          )
          )
          )
          )
          )
          )
          )
        else
          j14 t
        )
      )
      )
      )
      )
      )
      )
      )
      )
      )
      )
      )
      )
      )
      )
    else
      kx t
    )
    )
    )
    )
    )
theorem mfX3_passes_L2 (v0 : Nat) (v1 : Option Nat) (v2 : Option Nat) (kx : cS → Option (Unit × cS)) (hkx : ∀  (t : cS), MO t (kx t)) : ∀ (k : Nat) (v3 : Int32) (t : cS), MO t (fX3_passes_L2 v0 v1 v2 kx k v3 t) := by
  intro k
  induction k with
  | zero => intro v3 t; exact mo_none
  | succ k ih =>
    intro v3 t
    rw [fX3_passes_L2]
    refine mo_gd ?_
    refine mo_letv (fun _ => ?_)
    refine mo_rv (fun _ => ?_)
    refine mo_gd ?_
    refine mo_letv (fun _ => ?_)
    refine mo_ite ?_ ?_
    · refine mo_gd ?_
      refine mo_letv (fun _ => ?_)
      refine mo_rv (fun _ => ?_)
      refine mo_gd ?_
      refine mo_letv (fun _ => ?_)
      refine mo_rv (fun _ => ?_)
      refine mo_gd ?_
      refine mo_letv (fun _ => ?_)
      refine mo_rv (fun _ => ?_)
      refine mo_gd ?_
      refine mo_letv (fun _ => ?_)
      refine mo_rv (fun _ => ?_)
      refine mo_gd ?_
      refine mo_letv (fun _ => ?_)
      refine mo_jn (fun j_ => ∀ ( t13 : cS ), MO t13 (j_ t13)) (fun t13 => ?_) (fun j14 hj14 => ?_)
      · refine mo_letv (fun _ => ?_)
        exact ih _ _
      · refine mo_ite ?_ ?_
        · refine mo_gd ?_
          refine mo_letv (fun _ => ?_)
          refine mo_rv (fun _ => ?_)
          refine mo_gd ?_
          refine mo_letv (fun _ => ?_)
          refine mo_rv (fun _ => ?_)
          refine mo_gd ?_
          refine mo_letv (fun _ => ?_)
          refine mo_rv (fun _ => ?_)
          refine mo_gd ?_
          refine mo_letv (fun _ => ?_)
          refine mo_ite ?_ ?_
          · exact hj14 _
          · refine mo_gd ?_
            refine mo_letv (fun _ => ?_)
            refine mo_gd ?_
            refine mo_letv (fun _ => ?_)
            refine mo_rv (fun _ => ?_)
            refine mo_gd ?_
            refine mo_letv (fun _ => ?_)
            refine mo_rv (fun _ => ?_)
            refine mo_gd ?_
            refine mo_letv (fun _ => ?_)
            refine mo_letS cMo_sN (fun _ => ?_)
            refine mo_gd ?_
            refine mo_letv (fun _ => ?_)
            refine mo_rv (fun _ => ?_)
            refine mo_gd ?_
            refine mo_letv (fun _ => ?_)
            refine mo_ob (by apply mfX7_init) (fun _ _ => ?_)
            refine mo_rv (fun _ => ?_)
            refine mo_gd ?_
            refine mo_ob (by apply mfX1_sends) (fun _ _ => ?_)
            exact mo_some
        · exact hj14 _
    · exact hkx _
set_option maxHeartbeats 4000000 in
theorem gfX3_passes_L2 {X : gCx} {Y : cY} {s0 : cS} {ad0 : Nat → Nat} (hC : cOk X Y RX3 cX3_passes 4) (hl : (gLn X).stackTraces = false) (hY : ∀ q, q < Y.2.2.2.2.size → ¬ Y.2.2.2.1 q) (hnL : gLoc X = 4) (hrt : gRet X = none) (hnm : X.2.2.2.2.2.2.2.2.1.name = "passes") (hT : gTab X = []) (hmd : (gSt X).methodNamed? yX3_passes = some (gMe X)) (v0 : Nat) (v1 : Option Nat) (v2 : Option Nat) (kx : cS → Option (Unit × cS)) (hkx : ∀  (t : cS), GC X Y (cM Y X 4 s0 ad0 rV) (kx t) t 86 [] []) : ∀ (k : Nat) (v3 : Int32) (t : cS), GC X Y (cM Y X 4 s0 ad0 rV) (fX3_passes_L2 v0 v1 v2 kx k v3 t) t 2 [(0, .ref v0), (1, vr v1), (2, vr v2), (3, .int v3)] [] := by
  have hG := hC.1
  intro k
  induction k with
  | zero => intro v3 t; exact gc_none
  | succ k ih =>
    intro v3 t
    rw [fX3_passes_L2]
    refine gc_iload_n hG dX3_passes_2 rfl rfl ?_
    refine gc_aload_n hG (v := .ref v0) (refV_a _) dX3_passes_3 rfl rfl ?_
    refine gc_gd (fun hk => ?_)
    refine gc_get hC (ci := 3) (j := 0) (v := vr (cR t 25 v0)) hk dX3_passes_4 rfl (by decide) in_X3 q153 (fun _ h => h) rfl ?_
    refine gc_letr (fun x1 h_ => ?_)
    refine gc_rv (fun a2 h_ => ?_)
    subst h_
    refine gc_gd (fun hk => ?_)
    refine gc_getN hC (ci := 1) (j := 1) (v := .int (cI t 7 a2)) hk dX3_passes_7 rfl (by decide) in_X1 q163 (fun _ h => h) rfl ?_
    refine gc_letv (fun x3 h_ => ?_)
    refine gc_icmp_ge hG (tgt := 86) dX3_passes_10 (by decide) ?_ ?_
    · refine gc_aload_n hG (v := .ref v0) (refV_a _) dX3_passes_13 rfl rfl ?_
      refine gc_gd (fun hk => ?_)
      refine gc_get hC (ci := 3) (j := 0) (v := vr (cR t 25 v0)) hk dX3_passes_14 rfl (by decide) in_X3 q153 (fun _ h => h) rfl ?_
      refine gc_letr (fun x4 h_ => ?_)
      refine gc_rv (fun a5 h_ => ?_)
      subst h_
      refine gc_gd (fun hk => ?_)
      refine gc_getN hC (ci := 1) (j := 0) (v := vr (cR t 6 a5)) hk dX3_passes_17 rfl (by decide) in_X1 q159 (fun _ h => h) rfl ?_
      refine gc_letr (fun x6 h_ => ?_)
      refine gc_iload_n hG dX3_passes_20 rfl rfl ?_
      refine gc_rv (fun a7 h_ => ?_)
      subst h_
      refine gc_gd (fun hk => ?_)
      refine gc_aald hC hk.1 (by decide) (by decide) (t0 := 3) rfl hk.2 dX3_passes_21 ?_
      refine gc_letr (fun x8 h_ => ?_)
      refine gc_rv (fun a9 h_ => ?_)
      subst h_
      refine gc_gd (fun hk => ?_)
      refine gc_getN hC (ci := 4) (j := 1) (v := .int (cI t 27 a9)) hk dX3_passes_22 rfl (by decide) in_X5 q285 (fun _ h => h) rfl ?_
      refine gc_letv (fun x10 h_ => ?_)
      refine gc_aload_n hG (v := vr v1) (refV_x _) dX3_passes_25 rfl rfl ?_
      refine gc_rv (fun a11 h_ => ?_)
      subst h_
      refine gc_gd (fun hk => ?_)
      refine gc_getN hC (ci := 4) (j := 0) (v := .int (cI t 26 a11)) hk dX3_passes_26 rfl (by decide) in_X5 q282 (fun _ h => h) rfl ?_
      refine gc_letv (fun x12 h_ => ?_)
      refine gc_jn (fun j_ => ∀  (t13 : cS), GC X Y (cM Y X 4 s0 ad0 rV) (j_ t13) t13 80 [(0, .ref v0), (1, .ref a11), (2, vr v2), (3, .int v3)] []) (fun t13 => ?_) (fun j14 hj14 => ?_)
      · refine gc_letiinc hG (c := (nI 1)) (lv' := fun y15 => [(0, .ref v0), (1, .ref a11), (2, vr v2), (3, .int y15)]) dX3_passes_80 rfl (by decide) (Nat.le_of_ble_eq_true rfl) (fun _ => rfl) (fun y15 => ?_)
        refine gc_goto hG (tgt := 2) dX3_passes_83 (by decide) ?_
        exact ih y15 t13
      · refine gc_icmp_ne hG (tgt := 80) dX3_passes_29 (by decide) ?_ ?_
        · refine gc_aload_n hG (v := .ref v0) (refV_a _) dX3_passes_32 rfl rfl ?_
          refine gc_gd (fun hk => ?_)
          refine gc_get hC (ci := 3) (j := 0) (v := vr (cR t 25 v0)) hk dX3_passes_33 rfl (by decide) in_X3 q153 (fun _ h => h) rfl ?_
          refine gc_letr (fun x16 h_ => ?_)
          refine gc_rv (fun a17 h_ => ?_)
          subst h_
          refine gc_gd (fun hk => ?_)
          refine gc_getN hC (ci := 1) (j := 0) (v := vr (cR t 6 a17)) hk dX3_passes_36 rfl (by decide) in_X1 q159 (fun _ h => h) rfl ?_
          refine gc_letr (fun x18 h_ => ?_)
          refine gc_iload_n hG dX3_passes_39 rfl rfl ?_
          refine gc_rv (fun a19 h_ => ?_)
          subst h_
          refine gc_gd (fun hk => ?_)
          refine gc_aald hC hk.1 (by decide) (by decide) (t0 := 3) rfl hk.2 dX3_passes_40 ?_
          refine gc_letr (fun x20 h_ => ?_)
          refine gc_rv (fun a21 h_ => ?_)
          subst h_
          refine gc_gd (fun hk => ?_)
          refine gc_getN hC (ci := 4) (j := 7) (v := .int (cI t 33 a21)) hk dX3_passes_41 rfl (by decide) in_X5 q301 (fun _ h => h) rfl ?_
          refine gc_letv (fun x22 h_ => ?_)
          refine gc_if_eq hG (tgt := 80) dX3_passes_44 (by decide) ?_ ?_
          · exact hj14 t
          · refine gc_aload_n hG (v := .ref v0) (refV_a _) dX3_passes_47 rfl rfl ?_
            refine gc_gd (fun hk => ?_)
            refine gc_get hC (ci := 3) (j := 0) (v := vr (cR t 25 v0)) hk dX3_passes_48 rfl (by decide) in_X3 q153 (fun _ h => h) rfl ?_
            refine gc_letr (fun x23 h_ => ?_)
            refine gc_aload_n hG (v := .ref v0) (refV_a _) dX3_passes_51 rfl rfl ?_
            refine gc_gd (fun hk => ?_)
            refine gc_get hC (ci := 3) (j := 0) (v := vr (cR t 25 v0)) hk dX3_passes_52 rfl (by decide) in_X3 q153 (fun _ h => h) rfl ?_
            refine gc_letr (fun x24 h_ => ?_)
            refine gc_rv (fun a25 h_ => ?_)
            subst h_
            refine gc_gd (fun hk => ?_)
            refine gc_getN hC (ci := 1) (j := 0) (v := vr (cR t 6 a25)) hk dX3_passes_55 rfl (by decide) in_X1 q159 (fun _ h => h) rfl ?_
            refine gc_letr (fun x26 h_ => ?_)
            refine gc_iload_n hG dX3_passes_58 rfl rfl ?_
            refine gc_rv (fun a27 h_ => ?_)
            subst h_
            refine gc_gd (fun hk => ?_)
            refine gc_aald hC hk.1 (by decide) (by decide) (t0 := 3) rfl hk.2 dX3_passes_59 ?_
            refine gc_letr (fun x28 h_ => ?_)
            refine gc_new hC (ci := 5) tyX7 tyX7_ok rfl in_X7 dX3_passes_60 q770 q372 q81 (by decide +kernel) ?_
            refine gc_letS (fun s29 => ?_)
            refine gc_dup hG dX3_passes_63 rfl ?_
            refine gc_aload_n hG (v := .ref a11) (refV_a _) dX3_passes_64 rfl rfl ?_
            refine gc_gd (fun hk => ?_)
            refine gc_getN hC (ci := 4) (j := 0) (v := .int (cI s29 26 a11)) hk dX3_passes_65 rfl (by decide) in_X5 q282 (fun _ h => h) rfl ?_
            refine gc_letv (fun x30 h_ => ?_)
            refine gc_aload_n hG (v := vr v2) (refV_x _) dX3_passes_68 rfl rfl ?_
            refine gc_rv (fun a31 h_ => ?_)
            subst h_
            refine gc_gd (fun hk => ?_)
            refine gc_getN hC (ci := 5) (j := 1) (v := .int (cI s29 44 a31)) hk dX3_passes_69 rfl (by decide) in_X7 q381 (fun _ h => h) rfl ?_
            refine gc_letv (fun x32 h_ => ?_)
            refine gc_callI (f := fX7_init (cn t) x30 x32 s29) (As := [.int x30, .int x32]) (rest := [.ref (cn t), vr x28, vr x23]) (n := 2) (d' := 2) (b := (cn t)) hC hnL (wX7_init (gLn X) Y hl hY (cn t) x30 x32 s29) dX3_passes_72 q771 q374 q81 q375 ⟨by decide +kernel, by decide +kernel⟩ rfl rfl (by decide) (by decide) (by simp [cat_vr, cat_r, cat_i, cat_n]) (kn_V (fun r33 s34 => ?_)) kx_V
            refine gc_rv (fun a35 h_ => ?_)
            subst h_
            refine gc_gd (fun hk => ?_)
            refine gc_callV (f := fX1_sends a35 x28 (some (cn t)) s34) (As := [vr x28, .ref (cn t)]) (rest := []) (n := 2) (d' := 3) (b := a35) hC hnL (wX1_sends (gLn X) Y hl hY a35 x28 (some (cn t)) s34) hk (ci := 1) rfl dX3_passes_75 q772 q391 q392 q75 q393 ⟨by decide +kernel, by decide +kernel⟩ rfl (by decide) (by decide) (Nat.le_of_ble_eq_true rfl) (kn_I (fun r36 s37 => ?_)) kx_I
            refine gc_pop hG dX3_passes_78 rfl ?_
            exact gc_vret hC hrt rfl dX3_passes_79
        · exact hj14 t
    · refine gc_sub [] rfl ?_
      exact hkx t
def fX3_passes (v0 : Nat) (v1 : Option Nat) (v2 : Option Nat) (t : cS) : Option (Unit × cS) :=
  fX3_passes_L2 v0 v1 v2 (fun  (t38 : cS) =>
    (some ((), t38))
    ) FU (nI 0) t
theorem mfX3_passes (v0 : Nat) (v1 : Option Nat) (v2 : Option Nat) (t : cS) : MO t (fX3_passes v0 v1 v2 t) := by
  unfold fX3_passes
  refine mfX3_passes_L2 _ _ _ _ (fun _ => ?_) _ _ _
  exact mo_some
set_option maxHeartbeats 4000000 in
theorem wX3_passes (l : Launch) (Y : cY) (hl : l.stackTraces = false) (hY : ∀ q, q < Y.2.2.2.2.size → ¬ Y.2.2.2.1 q) (v0 : Nat) (v1 : Option Nat) (v2 : Option Nat) (t : cS) : cFn l Y yX3_passes (ws_ yX3_passes cX3_passes 4 none) 4 [.ref v0, vr v1, vr v2] t (fX3_passes v0 v1 v2 t) rV := by
  refine cmet (av := [.ref v0, vr v1, vr v2]) (mfX3_passes v0 v1 v2 t) hl hY (by decide +kernel) (lg_le (List.forall_mem_cons.mpr ⟨rfl, List.forall_mem_cons.mpr ⟨(cat_vr _), List.forall_mem_cons.mpr ⟨(cat_vr _), fun _ h => absurd h List.not_mem_nil⟩⟩⟩) (Nat.le_of_ble_eq_true rfl)) (lv_args_cat (List.forall_mem_cons.mpr ⟨rfl, List.forall_mem_cons.mpr ⟨(cat_vr _), List.forall_mem_cons.mpr ⟨(cat_vr _), fun _ h => absurd h List.not_mem_nil⟩⟩⟩)) ?_
  intro X ad0 hln hC hnL hrt hnm hT hmd
  subst hln
  have hG := hC.1
  rw [lv_args_s (List.forall_mem_cons.mpr ⟨rfl, List.forall_mem_cons.mpr ⟨(cat_vr _), List.forall_mem_cons.mpr ⟨(cat_vr _), fun _ h => absurd h List.not_mem_nil⟩⟩⟩)]
  show GC X Y (cM Y X 4 t ad0 rV) _ t 0 [(0, .ref v0), (1, vr v1), (2, vr v2)] []
  unfold fX3_passes
  refine gc_iconst hG (nI 0) dX3_passes_0 (by decide) ?_
  refine gc_istore_n hG dX3_passes_1 rfl (Nat.le_of_ble_eq_true rfl) (lv' := [(0, _), (1, _), (2, _), (3, _)]) rfl ?_
  refine gfX3_passes_L2 (s0 := t) (ad0 := ad0) hC hl hY hnL hrt hnm hT hmd v0 v1 v2   _ (fun t38 => ?_) FU (nI 0) t
  exact gc_vret hC hrt rfl dX3_passes_86
def fJ0_init_2 (v0 : Nat) (v1 : Option Nat) (v2 : Option Nat) (t : cS) : Option (Unit × cS) :=
  gd (cK t v0 = 10 ∨ cK t v0 = 11 ∨ cK t v0 = 12 ∨ cK t v0 = 15) (
  letv (sR t 51 v0 (some v0)) (fun s1 =>
  letv (cR s1 52 299) (fun x2 =>
  gd (cK s1 v0 = 10 ∨ cK s1 v0 = 11 ∨ cK s1 v0 = 12 ∨ cK s1 v0 = 15) (
  letv (sR s1 52 v0 x2) (fun s3 =>
  letv (cR s3 53 299) (fun x4 =>
  gd (cK s3 v0 = 10 ∨ cK s3 v0 = 11 ∨ cK s3 v0 = 12 ∨ cK s3 v0 = 15) (
  letv (sR s3 53 v0 x4) (fun s5 =>
  gd (cR s5 52 v0 = cR s5 52 299 ∧ cR s5 55 v0 = none) (
  gd (cK s5 v0 = 10 ∨ cK s5 v0 = 11 ∨ cK s5 v0 = 12 ∨ cK s5 v0 = 15) (
  gd (cK s5 v0 = 10 ∨ cK s5 v0 = 11 ∨ cK s5 v0 = 12 ∨ cK s5 v0 = 15) (
  letv (sR s5 54 v0 v1) (fun s6 =>
  gd (cK s6 v0 = 10 ∨ cK s6 v0 = 11 ∨ cK s6 v0 = 12 ∨ cK s6 v0 = 15) (
  letv (sR s6 51 v0 v2) (fun s7 =>
  (some ((), s7))
  )
  )
  )
  )
  )
  )
  )
  )
  )
  )
  )
  )
  )
  )
theorem mfJ0_init_2 (v0 : Nat) (v1 : Option Nat) (v2 : Option Nat) (t : cS) : MO t (fJ0_init_2 v0 v1 v2 t) := by
  unfold fJ0_init_2
  refine mo_gd ?_
  refine mo_letS cMo_sR (fun _ => ?_)
  refine mo_letv (fun _ => ?_)
  refine mo_gd ?_
  refine mo_letS cMo_sR (fun _ => ?_)
  refine mo_letv (fun _ => ?_)
  refine mo_gd ?_
  refine mo_letS cMo_sR (fun _ => ?_)
  refine mo_gd ?_
  refine mo_gd ?_
  refine mo_gd ?_
  refine mo_letS cMo_sR (fun _ => ?_)
  refine mo_gd ?_
  refine mo_letS cMo_sR (fun _ => ?_)
  exact mo_some
set_option maxHeartbeats 4000000 in
theorem wJ0_init_2 (l : Launch) (Y : cY) (hl : l.stackTraces = false) (hY : ∀ q, q < Y.2.2.2.2.size → ¬ Y.2.2.2.1 q) (v0 : Nat) (v1 : Option Nat) (v2 : Option Nat) (t : cS) : cFn l Y yJ0_init_2 (ws_ yJ0_init_2 cJ0_init_2 3 none) 1 [.ref v0, vr v1, vr v2] t (fJ0_init_2 v0 v1 v2 t) rV := by
  refine cmet (av := [.ref v0, vr v1, vr v2]) (mfJ0_init_2 v0 v1 v2 t) hl hY (by decide +kernel) (lg_le (List.forall_mem_cons.mpr ⟨rfl, List.forall_mem_cons.mpr ⟨(cat_vr _), List.forall_mem_cons.mpr ⟨(cat_vr _), fun _ h => absurd h List.not_mem_nil⟩⟩⟩) (Nat.le_of_ble_eq_true rfl)) (lv_args_cat (List.forall_mem_cons.mpr ⟨rfl, List.forall_mem_cons.mpr ⟨(cat_vr _), List.forall_mem_cons.mpr ⟨(cat_vr _), fun _ h => absurd h List.not_mem_nil⟩⟩⟩)) ?_
  intro X ad0 hln hC hnL hrt hnm hT hmd
  subst hln
  have hG := hC.1
  rw [lv_args_s (List.forall_mem_cons.mpr ⟨rfl, List.forall_mem_cons.mpr ⟨(cat_vr _), List.forall_mem_cons.mpr ⟨(cat_vr _), fun _ h => absurd h List.not_mem_nil⟩⟩⟩)]
  show GC X Y (cM Y X 3 t ad0 rV) _ t 0 [(0, .ref v0), (1, vr v1), (2, vr v2)] []
  unfold fJ0_init_2
  refine gc_aload_n hG (v := .ref v0) (refV_a _) dJ0_init_2_0 rfl rfl ?_
  refine gc_objInit hC hnL q507 q113 q114 dJ0_init_2_1 (Nat.le_of_ble_eq_true rfl) ?_
  refine gc_aload_n hG (v := .ref v0) (refV_a _) dJ0_init_2_4 rfl rfl ?_
  refine gc_aload_n hG (v := .ref v0) (refV_a _) dJ0_init_2_5 rfl rfl ?_
  refine gc_gd (fun hk => ?_)
  have pt := pt_R (s := t) (f := 51) (a := v0) (x := (some v0)) rfl
  refine gc_or4 hk (fun hk h_ => gc_put hC tyX11 tyX11_ok nmX11 hk dJ0_init_2_6 (ci := 9) (j := 0) (Or.inl (by decide)) rfl (by decide) in_X11 q545 (fun _ h => h) rfl (tyX11_ok 0 (by decide)) (nar_o (some v0)) (fit_o (some v0)) pt.1.1 pt.1.2.1 pt.1.2.2.1 pt.1.2.2.2 pt.2.1 pt.2.2.1 pt.2.2.2 h_) (fun hk h_ => gc_put hC tyX13 tyX13_ok nmX13 hk dJ0_init_2_6 (ci := 10) (j := 0) (Or.inl (by decide)) rfl (by decide) in_X13 q545 (fun _ h => h) rfl (tyX13_ok 0 (by decide)) (nar_o (some v0)) (fit_o (some v0)) pt.1.1 pt.1.2.1 pt.1.2.2.1 pt.1.2.2.2 pt.2.1 pt.2.2.1 pt.2.2.2 h_) (fun hk h_ => gc_put hC tyX14 tyX14_ok nmX14 hk dJ0_init_2_6 (ci := 11) (j := 0) (Or.inl (by decide)) rfl (by decide) in_X14 q545 (fun _ h => h) rfl (tyX14_ok 0 (by decide)) (nar_o (some v0)) (fit_o (some v0)) pt.1.1 pt.1.2.1 pt.1.2.2.1 pt.1.2.2.2 pt.2.1 pt.2.2.1 pt.2.2.2 h_) (fun hk h_ => gc_put hC tyX17 tyX17_ok nmX17 hk dJ0_init_2_6 (ci := 14) (j := 0) (Or.inl (by decide)) rfl (by decide) in_X17 q545 (fun _ h => h) rfl (tyX17_ok 0 (by decide)) (nar_o (some v0)) (fit_o (some v0)) pt.1.1 pt.1.2.1 pt.1.2.2.1 pt.1.2.2.2 pt.2.1 pt.2.2.1 pt.2.2.2 h_) ?_
  refine gc_letS (fun s1 => ?_)
  refine gc_aload_n hG (v := .ref v0) (refV_a _) dJ0_init_2_9 rfl rfl ?_
  refine gc_getUn hC q508 (fun _ h => h) dJ0_init_2_10 ?_
  refine gc_letr (fun x2 h_ => ?_)
  refine gc_gd (fun hk => ?_)
  have pt := pt_R (s := s1) (f := 52) (a := v0) (x := x2) rfl
  refine gc_or4 hk (fun hk h_ => gc_put hC tyX11 tyX11_ok nmX11 hk dJ0_init_2_13 (ci := 9) (j := 1) (Or.inl (by decide)) rfl (by decide) in_X11 q546 (fun _ h => h) rfl (tyX11_ok 1 (by decide)) (nar_a x2) (fit_a x2) pt.1.1 pt.1.2.1 pt.1.2.2.1 pt.1.2.2.2 pt.2.1 pt.2.2.1 pt.2.2.2 h_) (fun hk h_ => gc_put hC tyX13 tyX13_ok nmX13 hk dJ0_init_2_13 (ci := 10) (j := 1) (Or.inl (by decide)) rfl (by decide) in_X13 q546 (fun _ h => h) rfl (tyX13_ok 1 (by decide)) (nar_a x2) (fit_a x2) pt.1.1 pt.1.2.1 pt.1.2.2.1 pt.1.2.2.2 pt.2.1 pt.2.2.1 pt.2.2.2 h_) (fun hk h_ => gc_put hC tyX14 tyX14_ok nmX14 hk dJ0_init_2_13 (ci := 11) (j := 1) (Or.inl (by decide)) rfl (by decide) in_X14 q546 (fun _ h => h) rfl (tyX14_ok 1 (by decide)) (nar_a x2) (fit_a x2) pt.1.1 pt.1.2.1 pt.1.2.2.1 pt.1.2.2.2 pt.2.1 pt.2.2.1 pt.2.2.2 h_) (fun hk h_ => gc_put hC tyX17 tyX17_ok nmX17 hk dJ0_init_2_13 (ci := 14) (j := 1) (Or.inl (by decide)) rfl (by decide) in_X17 q546 (fun _ h => h) rfl (tyX17_ok 1 (by decide)) (nar_a x2) (fit_a x2) pt.1.1 pt.1.2.1 pt.1.2.2.1 pt.1.2.2.2 pt.2.1 pt.2.2.1 pt.2.2.2 h_) ?_
  refine gc_letS (fun s3 => ?_)
  refine gc_aload_n hG (v := .ref v0) (refV_a _) dJ0_init_2_16 rfl rfl ?_
  refine gc_getSu hC q510 (fun _ h => h) dJ0_init_2_17 ?_
  refine gc_letr (fun x4 h_ => ?_)
  refine gc_gd (fun hk => ?_)
  have pt := pt_R (s := s3) (f := 53) (a := v0) (x := x4) rfl
  refine gc_or4 hk (fun hk h_ => gc_put hC tyX11 tyX11_ok nmX11 hk dJ0_init_2_20 (ci := 9) (j := 2) (Or.inl (by decide)) rfl (by decide) in_X11 q547 (fun _ h => h) rfl (tyX11_ok 2 (by decide)) (nar_o x4) (fit_o x4) pt.1.1 pt.1.2.1 pt.1.2.2.1 pt.1.2.2.2 pt.2.1 pt.2.2.1 pt.2.2.2 h_) (fun hk h_ => gc_put hC tyX13 tyX13_ok nmX13 hk dJ0_init_2_20 (ci := 10) (j := 2) (Or.inl (by decide)) rfl (by decide) in_X13 q547 (fun _ h => h) rfl (tyX13_ok 2 (by decide)) (nar_o x4) (fit_o x4) pt.1.1 pt.1.2.1 pt.1.2.2.1 pt.1.2.2.2 pt.2.1 pt.2.2.1 pt.2.2.2 h_) (fun hk h_ => gc_put hC tyX14 tyX14_ok nmX14 hk dJ0_init_2_20 (ci := 11) (j := 2) (Or.inl (by decide)) rfl (by decide) in_X14 q547 (fun _ h => h) rfl (tyX14_ok 2 (by decide)) (nar_o x4) (fit_o x4) pt.1.1 pt.1.2.1 pt.1.2.2.1 pt.1.2.2.2 pt.2.1 pt.2.2.1 pt.2.2.2 h_) (fun hk h_ => gc_put hC tyX17 tyX17_ok nmX17 hk dJ0_init_2_20 (ci := 14) (j := 2) (Or.inl (by decide)) rfl (by decide) in_X17 q547 (fun _ h => h) rfl (tyX17_ok 2 (by decide)) (nar_o x4) (fit_o x4) pt.1.1 pt.1.2.1 pt.1.2.2.1 pt.1.2.2.2 pt.2.1 pt.2.2.1 pt.2.2.2 h_) ?_
  refine gc_letS (fun s5 => ?_)
  refine gc_aload_n hG (v := .ref v0) (refV_a _) dJ0_init_2_23 rfl rfl ?_
  refine gc_gd (fun hu => ?_)
  refine gc_gd (fun hk => ?_)
  refine gc_or4 hk (fun hk h_ => gc_fill hC hnL hk (ci := 9) (jS := 1) (jB := 4) rfl (by decide) (by decide) (by decide) rfl rfl in_X11 rfl rfl hu.1 hu.2 q515 q730 dJ0_init_2_24 (Nat.le_of_ble_eq_true rfl) h_) (fun hk h_ => gc_fill hC hnL hk (ci := 10) (jS := 1) (jB := 4) rfl (by decide) (by decide) (by decide) rfl rfl in_X13 rfl rfl hu.1 hu.2 q517 q792 dJ0_init_2_24 (Nat.le_of_ble_eq_true rfl) h_) (fun hk h_ => gc_fill hC hnL hk (ci := 11) (jS := 1) (jB := 4) rfl (by decide) (by decide) (by decide) rfl rfl in_X14 rfl rfl hu.1 hu.2 q516 q871 dJ0_init_2_24 (Nat.le_of_ble_eq_true rfl) h_) (fun hk h_ => gc_fill hC hnL hk (ci := 14) (jS := 1) (jB := 4) rfl (by decide) (by decide) (by decide) rfl rfl in_X17 rfl rfl hu.1 hu.2 q518 q1141 dJ0_init_2_24 (Nat.le_of_ble_eq_true rfl) h_) ?_
  refine gc_pop hG dJ0_init_2_27 rfl ?_
  refine gc_aload_n hG (v := .ref v0) (refV_a _) dJ0_init_2_28 rfl rfl ?_
  refine gc_aload_n hG (v := vr v1) (refV_x _) dJ0_init_2_29 rfl rfl ?_
  refine gc_gd (fun hk => ?_)
  have pt := pt_R (s := s5) (f := 54) (a := v0) (x := v1) rfl
  refine gc_or4 hk (fun hk h_ => gc_put hC tyX11 tyX11_ok nmX11 hk dJ0_init_2_30 (ci := 9) (j := 3) (Or.inl (by decide)) rfl (by decide) in_X11 q544 (fun _ h => h) rfl (tyX11_ok 3 (by decide)) (nar_o v1) (fit_o v1) pt.1.1 pt.1.2.1 pt.1.2.2.1 pt.1.2.2.2 pt.2.1 pt.2.2.1 pt.2.2.2 h_) (fun hk h_ => gc_put hC tyX13 tyX13_ok nmX13 hk dJ0_init_2_30 (ci := 10) (j := 3) (Or.inl (by decide)) rfl (by decide) in_X13 q544 (fun _ h => h) rfl (tyX13_ok 3 (by decide)) (nar_o v1) (fit_o v1) pt.1.1 pt.1.2.1 pt.1.2.2.1 pt.1.2.2.2 pt.2.1 pt.2.2.1 pt.2.2.2 h_) (fun hk h_ => gc_put hC tyX14 tyX14_ok nmX14 hk dJ0_init_2_30 (ci := 11) (j := 3) (Or.inl (by decide)) rfl (by decide) in_X14 q544 (fun _ h => h) rfl (tyX14_ok 3 (by decide)) (nar_o v1) (fit_o v1) pt.1.1 pt.1.2.1 pt.1.2.2.1 pt.1.2.2.2 pt.2.1 pt.2.2.1 pt.2.2.2 h_) (fun hk h_ => gc_put hC tyX17 tyX17_ok nmX17 hk dJ0_init_2_30 (ci := 14) (j := 3) (Or.inl (by decide)) rfl (by decide) in_X17 q544 (fun _ h => h) rfl (tyX17_ok 3 (by decide)) (nar_o v1) (fit_o v1) pt.1.1 pt.1.2.1 pt.1.2.2.1 pt.1.2.2.2 pt.2.1 pt.2.2.1 pt.2.2.2 h_) ?_
  refine gc_letS (fun s6 => ?_)
  refine gc_aload_n hG (v := .ref v0) (refV_a _) dJ0_init_2_33 rfl rfl ?_
  refine gc_aload_n hG (v := vr v2) (refV_x _) dJ0_init_2_34 rfl rfl ?_
  refine gc_gd (fun hk => ?_)
  have pt := pt_R (s := s6) (f := 51) (a := v0) (x := v2) rfl
  refine gc_or4 hk (fun hk h_ => gc_put hC tyX11 tyX11_ok nmX11 hk dJ0_init_2_35 (ci := 9) (j := 0) (Or.inl (by decide)) rfl (by decide) in_X11 q545 (fun _ h => h) rfl (tyX11_ok 0 (by decide)) (nar_o v2) (fit_o v2) pt.1.1 pt.1.2.1 pt.1.2.2.1 pt.1.2.2.2 pt.2.1 pt.2.2.1 pt.2.2.2 h_) (fun hk h_ => gc_put hC tyX13 tyX13_ok nmX13 hk dJ0_init_2_35 (ci := 10) (j := 0) (Or.inl (by decide)) rfl (by decide) in_X13 q545 (fun _ h => h) rfl (tyX13_ok 0 (by decide)) (nar_o v2) (fit_o v2) pt.1.1 pt.1.2.1 pt.1.2.2.1 pt.1.2.2.2 pt.2.1 pt.2.2.1 pt.2.2.2 h_) (fun hk h_ => gc_put hC tyX14 tyX14_ok nmX14 hk dJ0_init_2_35 (ci := 11) (j := 0) (Or.inl (by decide)) rfl (by decide) in_X14 q545 (fun _ h => h) rfl (tyX14_ok 0 (by decide)) (nar_o v2) (fit_o v2) pt.1.1 pt.1.2.1 pt.1.2.2.1 pt.1.2.2.2 pt.2.1 pt.2.2.1 pt.2.2.2 h_) (fun hk h_ => gc_put hC tyX17 tyX17_ok nmX17 hk dJ0_init_2_35 (ci := 14) (j := 0) (Or.inl (by decide)) rfl (by decide) in_X17 q545 (fun _ h => h) rfl (tyX17_ok 0 (by decide)) (nar_o v2) (fit_o v2) pt.1.1 pt.1.2.1 pt.1.2.2.1 pt.1.2.2.2 pt.2.1 pt.2.2.1 pt.2.2.2 h_) ?_
  refine gc_letS (fun s7 => ?_)
  exact gc_vret hC hrt rfl dJ0_init_2_38
def fJ1_init_2 (v0 : Nat) (v1 : Option Nat) (v2 : Option Nat) (t : cS) : Option (Unit × cS) :=
  ob (fJ0_init_2 v0 v1 v2 t) (fun r1 s2 =>
  (some ((), s2))
  )
theorem mfJ1_init_2 (v0 : Nat) (v1 : Option Nat) (v2 : Option Nat) (t : cS) : MO t (fJ1_init_2 v0 v1 v2 t) := by
  unfold fJ1_init_2
  refine mo_ob (by apply mfJ0_init_2) (fun _ _ => ?_)
  exact mo_some
set_option maxHeartbeats 4000000 in
theorem wJ1_init_2 (l : Launch) (Y : cY) (hl : l.stackTraces = false) (hY : ∀ q, q < Y.2.2.2.2.size → ¬ Y.2.2.2.1 q) (v0 : Nat) (v1 : Option Nat) (v2 : Option Nat) (t : cS) : cFn l Y yJ1_init_2 (ws_ yJ1_init_2 cJ1_init_2 3 none) 2 [.ref v0, vr v1, vr v2] t (fJ1_init_2 v0 v1 v2 t) rV := by
  refine cmet (av := [.ref v0, vr v1, vr v2]) (mfJ1_init_2 v0 v1 v2 t) hl hY (by decide +kernel) (lg_le (List.forall_mem_cons.mpr ⟨rfl, List.forall_mem_cons.mpr ⟨(cat_vr _), List.forall_mem_cons.mpr ⟨(cat_vr _), fun _ h => absurd h List.not_mem_nil⟩⟩⟩) (Nat.le_of_ble_eq_true rfl)) (lv_args_cat (List.forall_mem_cons.mpr ⟨rfl, List.forall_mem_cons.mpr ⟨(cat_vr _), List.forall_mem_cons.mpr ⟨(cat_vr _), fun _ h => absurd h List.not_mem_nil⟩⟩⟩)) ?_
  intro X ad0 hln hC hnL hrt hnm hT hmd
  subst hln
  have hG := hC.1
  rw [lv_args_s (List.forall_mem_cons.mpr ⟨rfl, List.forall_mem_cons.mpr ⟨(cat_vr _), List.forall_mem_cons.mpr ⟨(cat_vr _), fun _ h => absurd h List.not_mem_nil⟩⟩⟩)]
  show GC X Y (cM Y X 3 t ad0 rV) _ t 0 [(0, .ref v0), (1, vr v1), (2, vr v2)] []
  unfold fJ1_init_2
  refine gc_aload_n hG (v := .ref v0) (refV_a _) dJ1_init_2_0 rfl rfl ?_
  refine gc_aload_n hG (v := vr v1) (refV_x _) dJ1_init_2_1 rfl rfl ?_
  refine gc_aload_n hG (v := vr v2) (refV_x _) dJ1_init_2_2 rfl rfl ?_
  refine gc_callI (f := fJ0_init_2 v0 v1 v2 t) (As := [vr v1, vr v2]) (rest := []) (n := 2) (d' := 1) (b := v0) hC hnL (wJ0_init_2 (gLn X) Y hl hY v0 v1 v2 t) dJ1_init_2_3 q746 q747 q84 q748 ⟨by decide +kernel, by decide +kernel⟩ rfl rfl (by decide) (by decide) (Nat.le_of_ble_eq_true rfl) (kn_V (fun r1 s2 => ?_)) kx_V
  exact gc_vret hC hrt rfl dJ1_init_2_6
def fX11_init_2 (v0 : Nat) (v1 : Int32) (v2 : Int32) (v3 : Option Nat) (t : cS) : Option (Unit × cS) :=
  gd (cK t 259 = 99) (
  ob (fJ1_init_2 v0 (some (259)) v3 t) (fun r1 s2 =>
  gd (cK s2 v0 = 10) (
  letv (sI s2 57 v0 v1) (fun s3 =>
  gd (cK s3 v0 = 10) (
  letv (sI s3 58 v0 v2) (fun s4 =>
  (some ((), s4))
  )
  )
  )
  )
  )
  )
theorem mfX11_init_2 (v0 : Nat) (v1 : Int32) (v2 : Int32) (v3 : Option Nat) (t : cS) : MO t (fX11_init_2 v0 v1 v2 v3 t) := by
  unfold fX11_init_2
  refine mo_gd ?_
  refine mo_ob (by apply mfJ1_init_2) (fun _ _ => ?_)
  refine mo_gd ?_
  refine mo_letS cMo_sI (fun _ => ?_)
  refine mo_gd ?_
  refine mo_letS cMo_sI (fun _ => ?_)
  exact mo_some
set_option maxHeartbeats 4000000 in
theorem wX11_init_2 (l : Launch) (Y : cY) (hl : l.stackTraces = false) (hY : ∀ q, q < Y.2.2.2.2.size → ¬ Y.2.2.2.1 q) (v0 : Nat) (v1 : Int32) (v2 : Int32) (v3 : Option Nat) (t : cS) : cFn l Y yX11_init_2 (ws_ yX11_init_2 cX11_init_2 4 none) 3 [.ref v0, .int v1, .int v2, vr v3] t (fX11_init_2 v0 v1 v2 v3 t) rV := by
  refine cmet (av := [.ref v0, .int v1, .int v2, vr v3]) (mfX11_init_2 v0 v1 v2 v3 t) hl hY (by decide +kernel) (lg_le (List.forall_mem_cons.mpr ⟨rfl, List.forall_mem_cons.mpr ⟨rfl, List.forall_mem_cons.mpr ⟨rfl, List.forall_mem_cons.mpr ⟨(cat_vr _), fun _ h => absurd h List.not_mem_nil⟩⟩⟩⟩) (Nat.le_of_ble_eq_true rfl)) (lv_args_cat (List.forall_mem_cons.mpr ⟨rfl, List.forall_mem_cons.mpr ⟨rfl, List.forall_mem_cons.mpr ⟨rfl, List.forall_mem_cons.mpr ⟨(cat_vr _), fun _ h => absurd h List.not_mem_nil⟩⟩⟩⟩)) ?_
  intro X ad0 hln hC hnL hrt hnm hT hmd
  subst hln
  have hG := hC.1
  rw [lv_args_s (List.forall_mem_cons.mpr ⟨rfl, List.forall_mem_cons.mpr ⟨rfl, List.forall_mem_cons.mpr ⟨rfl, List.forall_mem_cons.mpr ⟨(cat_vr _), fun _ h => absurd h List.not_mem_nil⟩⟩⟩⟩)]
  show GC X Y (cM Y X 4 t ad0 rV) _ t 0 [(0, .ref v0), (1, .int v1), (2, .int v2), (3, vr v3)] []
  unfold fX11_init_2
  refine gc_aload_n hG (v := .ref v0) (refV_a _) dX11_init_2_0 rfl rfl ?_
  refine gc_gd (fun hk => ?_)
  refine gc_ldcS hC hk dX11_init_2_1 ?_
  refine gc_aload_n hG (v := vr v3) (refV_x _) dX11_init_2_3 rfl rfl ?_
  refine gc_callI (f := fJ1_init_2 v0 (some (259)) v3 t) (As := [.ref (259), vr v3]) (rest := []) (n := 2) (d' := 2) (b := v0) hC hnL (wJ1_init_2 (gLn X) Y hl hY v0 (some (259)) v3 t) dX11_init_2_4 q743 q744 q85 q745 ⟨by decide +kernel, by decide +kernel⟩ rfl rfl (by decide) (by decide) (Nat.le_of_ble_eq_true rfl) (kn_V (fun r1 s2 => ?_)) kx_V
  refine gc_aload_n hG (v := .ref v0) (refV_a _) dX11_init_2_7 rfl rfl ?_
  refine gc_iload_n hG dX11_init_2_8 rfl rfl ?_
  refine gc_gd (fun hk => ?_)
  have pt := pt_I (s := s2) (f := 57) (a := v0) (x := v1) rfl
  refine gc_putF hC tyX11 tyX11_ok nmX11 hk dX11_init_2_9 (ci := 9) (j := 6) (Or.inl (by decide)) rfl (by decide) in_X11 q749 (fun _ h => h) rfl (by rw [hnm]; rfl) rfl (tyX11_ok 6 (by decide)) (fun _ => rfl) (fun _ => rfl) pt.1.1 pt.1.2.1 pt.1.2.2.1 pt.1.2.2.2 pt.2.1 pt.2.2.1 pt.2.2.2 ?_
  refine gc_letS (fun s3 => ?_)
  refine gc_aload_n hG (v := .ref v0) (refV_a _) dX11_init_2_12 rfl rfl ?_
  refine gc_iload_n hG dX11_init_2_13 rfl rfl ?_
  refine gc_gd (fun hk => ?_)
  have pt := pt_I (s := s3) (f := 58) (a := v0) (x := v2) rfl
  refine gc_putF hC tyX11 tyX11_ok nmX11 hk dX11_init_2_14 (ci := 9) (j := 7) (Or.inl (by decide)) rfl (by decide) in_X11 q752 (fun _ h => h) rfl (by rw [hnm]; rfl) rfl (tyX11_ok 7 (by decide)) (fun _ => rfl) (fun _ => rfl) pt.1.1 pt.1.2.1 pt.1.2.2.1 pt.1.2.2.2 pt.2.1 pt.2.2.1 pt.2.2.2 ?_
  refine gc_letS (fun s4 => ?_)
  exact gc_vret hC hrt rfl dX11_init_2_17
def fX11_init (v0 : Nat) (v1 : Int32) (v2 : Int32) (t : cS) : Option (Unit × cS) :=
  ob (fX11_init_2 v0 v1 v2 none t) (fun r1 s2 =>
  (some ((), s2))
  )
theorem mfX11_init (v0 : Nat) (v1 : Int32) (v2 : Int32) (t : cS) : MO t (fX11_init v0 v1 v2 t) := by
  unfold fX11_init
  refine mo_ob (by apply mfX11_init_2) (fun _ _ => ?_)
  exact mo_some
set_option maxHeartbeats 4000000 in
theorem wX11_init (l : Launch) (Y : cY) (hl : l.stackTraces = false) (hY : ∀ q, q < Y.2.2.2.2.size → ¬ Y.2.2.2.1 q) (v0 : Nat) (v1 : Int32) (v2 : Int32) (t : cS) : cFn l Y yX11_init (ws_ yX11_init cX11_init 3 none) 4 [.ref v0, .int v1, .int v2] t (fX11_init v0 v1 v2 t) rV := by
  refine cmet (av := [.ref v0, .int v1, .int v2]) (mfX11_init v0 v1 v2 t) hl hY (by decide +kernel) (lg_le (List.forall_mem_cons.mpr ⟨rfl, List.forall_mem_cons.mpr ⟨rfl, List.forall_mem_cons.mpr ⟨rfl, fun _ h => absurd h List.not_mem_nil⟩⟩⟩) (Nat.le_of_ble_eq_true rfl)) (lv_args_cat (List.forall_mem_cons.mpr ⟨rfl, List.forall_mem_cons.mpr ⟨rfl, List.forall_mem_cons.mpr ⟨rfl, fun _ h => absurd h List.not_mem_nil⟩⟩⟩)) ?_
  intro X ad0 hln hC hnL hrt hnm hT hmd
  subst hln
  have hG := hC.1
  rw [lv_args_s (List.forall_mem_cons.mpr ⟨rfl, List.forall_mem_cons.mpr ⟨rfl, List.forall_mem_cons.mpr ⟨rfl, fun _ h => absurd h List.not_mem_nil⟩⟩⟩)]
  show GC X Y (cM Y X 3 t ad0 rV) _ t 0 [(0, .ref v0), (1, .int v1), (2, .int v2)] []
  unfold fX11_init
  refine gc_aload_n hG (v := .ref v0) (refV_a _) dX11_init_0 rfl rfl ?_
  refine gc_iload_n hG dX11_init_1 rfl rfl ?_
  refine gc_iload_n hG dX11_init_2 rfl rfl ?_
  refine gc_null hG dX11_init_3 ?_
  refine gc_callI (f := fX11_init_2 v0 v1 v2 none t) (As := [.int v1, .int v2, .null]) (rest := []) (n := 3) (d' := 3) (b := v0) hC hnL (wX11_init_2 (gLn X) Y hl hY v0 v1 v2 none t) dX11_init_4 q739 q740 q91 q741 ⟨by decide +kernel, by decide +kernel⟩ rfl rfl (by decide) (by decide) (Nat.le_of_ble_eq_true rfl) (kn_V (fun r1 s2 => ?_)) kx_V
  exact gc_vret hC hrt rfl dX11_init_7
def fX3_risks (v0 : Nat) (v1 : Option Nat) (v2 : Option Nat) (t : cS) : Option ((Unit ⊕ Nat) × cS) :=
  rv v2 (fun a1 =>
  gd (cK t a1 = 6) (
  letv (cI t 44 a1) (fun x2 =>
  rv v1 (fun a3 =>
  gd (cK t a3 = 5) (
  letv (cI t 34 a3) (fun x4 =>
  if x2 < x4 then
    letv (sN t 10 0 8) (fun s5 =>
    gd (cK s5 a3 = 5) (
    letv (cI s5 26 a3) (fun x6 =>
    ob (fX11_init (cn t) x6 (nI 1) s5) (fun r7 s8 =>
    gd (cK s8 (cn t) = 10) (
    some (.inr (cn t), s8)
    )
    )
    )
    )
    )
  else
    gd (cK t a1 = 6) (
    letv (cI t 44 a1) (fun x9 =>
    gd (cK t a3 = 5) (
    letv (sI t 34 a3 x9) (fun s10 =>
    (some ((.inl ()), s10))
    )
    )
    )
    )
  )
  )
  )
  )
  )
  )
theorem mfX3_risks (v0 : Nat) (v1 : Option Nat) (v2 : Option Nat) (t : cS) : MO t (fX3_risks v0 v1 v2 t) := by
  unfold fX3_risks
  refine mo_rv (fun _ => ?_)
  refine mo_gd ?_
  refine mo_letv (fun _ => ?_)
  refine mo_rv (fun _ => ?_)
  refine mo_gd ?_
  refine mo_letv (fun _ => ?_)
  refine mo_ite ?_ ?_
  · refine mo_letS cMo_sN (fun _ => ?_)
    refine mo_gd ?_
    refine mo_letv (fun _ => ?_)
    refine mo_ob (by apply mfX11_init) (fun _ _ => ?_)
    refine mo_gd ?_
    exact mo_some
  · refine mo_gd ?_
    refine mo_letv (fun _ => ?_)
    refine mo_gd ?_
    refine mo_letS cMo_sI (fun _ => ?_)
    exact mo_some
set_option maxHeartbeats 4000000 in
theorem wX3_risks (l : Launch) (Y : cY) (hl : l.stackTraces = false) (hY : ∀ q, q < Y.2.2.2.2.size → ¬ Y.2.2.2.1 q) (v0 : Nat) (v1 : Option Nat) (v2 : Option Nat) (t : cS) : cFn l Y yX3_risks (ws_ yX3_risks cX3_risks 3 none) 5 [.ref v0, vr v1, vr v2] t (fX3_risks v0 v1 v2 t) rVx := by
  refine cmet (av := [.ref v0, vr v1, vr v2]) (mfX3_risks v0 v1 v2 t) hl hY (by decide +kernel) (lg_le (List.forall_mem_cons.mpr ⟨rfl, List.forall_mem_cons.mpr ⟨(cat_vr _), List.forall_mem_cons.mpr ⟨(cat_vr _), fun _ h => absurd h List.not_mem_nil⟩⟩⟩) (Nat.le_of_ble_eq_true rfl)) (lv_args_cat (List.forall_mem_cons.mpr ⟨rfl, List.forall_mem_cons.mpr ⟨(cat_vr _), List.forall_mem_cons.mpr ⟨(cat_vr _), fun _ h => absurd h List.not_mem_nil⟩⟩⟩)) ?_
  intro X ad0 hln hC hnL hrt hnm hT hmd
  subst hln
  have hG := hC.1
  rw [lv_args_s (List.forall_mem_cons.mpr ⟨rfl, List.forall_mem_cons.mpr ⟨(cat_vr _), List.forall_mem_cons.mpr ⟨(cat_vr _), fun _ h => absurd h List.not_mem_nil⟩⟩⟩)]
  show GC X Y (cM Y X 3 t ad0 rVx) _ t 0 [(0, .ref v0), (1, vr v1), (2, vr v2)] []
  unfold fX3_risks
  refine gc_aload_n hG (v := vr v2) (refV_x _) dX3_risks_0 rfl rfl ?_
  refine gc_rv (fun a1 h_ => ?_)
  subst h_
  refine gc_gd (fun hk => ?_)
  refine gc_getN hC (ci := 5) (j := 1) (v := .int (cI t 44 a1)) hk dX3_risks_1 rfl (by decide) in_X7 q381 (fun _ h => h) rfl ?_
  refine gc_letv (fun x2 h_ => ?_)
  refine gc_aload_n hG (v := vr v1) (refV_x _) dX3_risks_4 rfl rfl ?_
  refine gc_rv (fun a3 h_ => ?_)
  subst h_
  refine gc_gd (fun hk => ?_)
  refine gc_getN hC (ci := 4) (j := 8) (v := .int (cI t 34 a3)) hk dX3_risks_5 rfl (by decide) in_X5 q304 (fun _ h => h) rfl ?_
  refine gc_letv (fun x4 h_ => ?_)
  refine gc_icmp_ge hG (tgt := 24) dX3_risks_8 (by decide) ?_ ?_
  · refine gc_new hC (ci := 9) tyX11 tyX11_ok rfl in_X11 dX3_risks_11 q886 q728 q91 (by decide +kernel) ?_
    refine gc_letS (fun s5 => ?_)
    refine gc_dup hG dX3_risks_14 rfl ?_
    refine gc_aload_n hG (v := .ref a3) (refV_a _) dX3_risks_15 rfl rfl ?_
    refine gc_gd (fun hk => ?_)
    refine gc_getN hC (ci := 4) (j := 0) (v := .int (cI s5 26 a3)) hk dX3_risks_16 rfl (by decide) in_X5 q282 (fun _ h => h) rfl ?_
    refine gc_letv (fun x6 h_ => ?_)
    refine gc_iconst hG (nI 1) dX3_risks_19 (by decide) ?_
    refine gc_callI (f := fX11_init (cn t) x6 (nI 1) s5) (As := [.int x6, .int (nI 1)]) (rest := [.ref (cn t)]) (n := 2) (d' := 4) (b := (cn t)) hC hnL (wX11_init (gLn X) Y hl hY (cn t) x6 (nI 1) s5) dX3_risks_20 q887 q737 q91 q738 ⟨by decide +kernel, by decide +kernel⟩ rfl rfl (by decide) (by decide) (Nat.le_of_ble_eq_true rfl) (kn_V (fun r7 s8 => ?_)) kx_V
    refine gc_athrow hG dX3_risks_23 ?_
    refine gx_gd (fun hk => ?_)
    exact gx_outR hC hk (ci := 9) rfl rfl (by rw [hT]; intro z hz; cases hz)
  · refine gc_aload_n hG (v := .ref a3) (refV_a _) dX3_risks_24 rfl rfl ?_
    refine gc_aload_n hG (v := .ref a1) (refV_a _) dX3_risks_25 rfl rfl ?_
    refine gc_gd (fun hk => ?_)
    refine gc_getN hC (ci := 5) (j := 1) (v := .int (cI t 44 a1)) hk dX3_risks_26 rfl (by decide) in_X7 q381 (fun _ h => h) rfl ?_
    refine gc_letv (fun x9 h_ => ?_)
    refine gc_gd (fun hk => ?_)
    have pt := pt_I (s := t) (f := 34) (a := a3) (x := x9) rfl
    refine gc_putN hC tyX5 tyX5_ok nmX5 hk dX3_risks_29 (ci := 4) (j := 8) (Or.inl (by decide)) rfl (by decide) in_X5 q304 (fun _ h => h) rfl (tyX5_ok 8 (by decide)) (fun _ => rfl) (fun _ => rfl) pt.1.1 pt.1.2.1 pt.1.2.2.1 pt.1.2.2.2 pt.2.1 pt.2.2.1 pt.2.2.2 ?_
    refine gc_letS (fun s10 => ?_)
    exact gc_vret hC hrt rfl dX3_risks_32
def fX14_init (v0 : Nat) (t : cS) : Option (Unit × cS) :=
  ob (fX12_init v0 t) (fun r1 s2 =>
  (some ((), s2))
  )
theorem mfX14_init (v0 : Nat) (t : cS) : MO t (fX14_init v0 t) := by
  unfold fX14_init
  refine mo_ob (by apply mfX12_init) (fun _ _ => ?_)
  exact mo_some
set_option maxHeartbeats 4000000 in
theorem wX14_init (l : Launch) (Y : cY) (hl : l.stackTraces = false) (hY : ∀ q, q < Y.2.2.2.2.size → ¬ Y.2.2.2.1 q) (v0 : Nat) (t : cS) : cFn l Y yX14_init (ws_ yX14_init cX14_init 1 none) 4 [.ref v0] t (fX14_init v0 t) rV := by
  refine cmet (av := [.ref v0]) (mfX14_init v0 t) hl hY (by decide +kernel) (lg_le (List.forall_mem_cons.mpr ⟨rfl, fun _ h => absurd h List.not_mem_nil⟩) (Nat.le_of_ble_eq_true rfl)) (lv_args_cat (List.forall_mem_cons.mpr ⟨rfl, fun _ h => absurd h List.not_mem_nil⟩)) ?_
  intro X ad0 hln hC hnL hrt hnm hT hmd
  subst hln
  have hG := hC.1
  rw [lv_args_s (List.forall_mem_cons.mpr ⟨rfl, fun _ h => absurd h List.not_mem_nil⟩)]
  show GC X Y (cM Y X 1 t ad0 rV) _ t 0 [(0, .ref v0)] []
  unfold fX14_init
  refine gc_aload_n hG (v := .ref v0) (refV_a _) dX14_init_0 rfl rfl ?_
  refine gc_callIN (f := fX12_init v0 t) (As := []) (rest := []) (n := 0) (d' := 3) (b := v0) hC hnL (wX12_init (gLn X) Y hl hY v0 t) dX14_init_1 q880 q802 q92 q803 ⟨by decide +kernel, by decide +kernel⟩ rfl rfl (by decide) (by decide) (Nat.le_of_ble_eq_true rfl) (kn_V (fun r1 s2 => ?_)) kx_V
  exact gc_vret hC hrt rfl dX14_init_4
def fX5_becomes (v0 : Nat) (v1 : Int32) (t : cS) : Option ((Unit ⊕ Nat) × cS) :=
  gd (cK t v0 = 5) (
  letv (cR t 35 v0) (fun x1 =>
  gd (cK t v0 = 5) (
  letv (cI t 36 v0) (fun x2 =>
  rv x1 (fun a3 =>
  gd (cK t a3 = 20 ∧ cL t a3 < 2147483648) (
  if cIn t a3 x2 then
    letv (sI t (ei (x2).toNatClampNeg) a3 v1) (fun s4 =>
    gd (cK s4 v0 = 5) (
    letv (cI s4 36 v0) (fun x5 =>
    gd (cK s4 v0 = 5) (
    letv (sI s4 36 v0 (x5 + (nI 1))) (fun s6 =>
    (some ((.inl ()), s6))
    )
    )
    )
    )
    )
  else
    letv (sX t 3 222) (fun s7 =>
    letv (sN s7 12 0 6) (fun s8 =>
    ob (fX14_init (cn s7) s8) (fun r9 s10 =>
    gd (cK s10 (cn s7) = 12) (
    some (.inr (cn s7), s10)
    )
    )
    )
    )
  )
  )
  )
  )
  )
  )
theorem mfX5_becomes (v0 : Nat) (v1 : Int32) (t : cS) : MO t (fX5_becomes v0 v1 t) := by
  unfold fX5_becomes
  refine mo_gd ?_
  refine mo_letv (fun _ => ?_)
  refine mo_gd ?_
  refine mo_letv (fun _ => ?_)
  refine mo_rv (fun _ => ?_)
  refine mo_gd ?_
  refine mo_ite ?_ ?_
  · refine mo_letS cMo_sI (fun _ => ?_)
    refine mo_gd ?_
    refine mo_letv (fun _ => ?_)
    refine mo_gd ?_
    refine mo_letS cMo_sI (fun _ => ?_)
    exact mo_some
  · refine mo_letS cMo_sX (fun _ => ?_)
    refine mo_letS cMo_sN (fun _ => ?_)
    refine mo_ob (by apply mfX14_init) (fun _ _ => ?_)
    refine mo_gd ?_
    exact mo_some
set_option maxHeartbeats 4000000 in
theorem wX5_becomes (l : Launch) (Y : cY) (hl : l.stackTraces = false) (hY : ∀ q, q < Y.2.2.2.2.size → ¬ Y.2.2.2.1 q) (v0 : Nat) (v1 : Int32) (t : cS) : cFn l Y yX5_becomes (wsW_ yX5_becomes cX5_becomes 3 none [(0, 10, 13, 98)]) 5 [.ref v0, .int v1] t (fX5_becomes v0 v1 t) rVx := by
  refine cmetW (av := [.ref v0, .int v1]) (mfX5_becomes v0 v1 t) hl hY (by decide +kernel) (lg_le (List.forall_mem_cons.mpr ⟨rfl, List.forall_mem_cons.mpr ⟨rfl, fun _ h => absurd h List.not_mem_nil⟩⟩) (Nat.le_of_ble_eq_true rfl)) (lv_args_cat (List.forall_mem_cons.mpr ⟨rfl, List.forall_mem_cons.mpr ⟨rfl, fun _ h => absurd h List.not_mem_nil⟩⟩)) ?_
  intro X ad0 hln hC hnL hrt hnm hT hmd
  subst hln
  have hG := hC.1
  rw [lv_args_s (List.forall_mem_cons.mpr ⟨rfl, List.forall_mem_cons.mpr ⟨rfl, fun _ h => absurd h List.not_mem_nil⟩⟩)]
  show GC X Y (cM Y X 3 t ad0 rVx) _ t 0 [(0, .ref v0), (1, .int v1)] []
  unfold fX5_becomes
  refine gc_aload_n hG (v := .ref v0) (refV_a _) dX5_becomes_0 rfl rfl ?_
  refine gc_gd (fun hk => ?_)
  refine gc_get hC (ci := 4) (j := 9) (v := vr (cR t 35 v0)) hk dX5_becomes_1 rfl (by decide) in_X5 q307 (fun _ h => h) rfl ?_
  refine gc_letr (fun x1 h_ => ?_)
  refine gc_aload_n hG (v := .ref v0) (refV_a _) dX5_becomes_4 rfl rfl ?_
  refine gc_gd (fun hk => ?_)
  refine gc_get hC (ci := 4) (j := 10) (v := .int (cI t 36 v0)) hk dX5_becomes_5 rfl (by decide) in_X5 q309 (fun _ h => h) rfl ?_
  refine gc_letv (fun x2 h_ => ?_)
  refine gc_iload_n hG dX5_becomes_8 rfl rfl ?_
  refine gc_rv (fun a3 h_ => ?_)
  subst h_
  refine gc_gd (fun hk => ?_)
  refine gc_ifp (fun hin => ?_) (fun hin => ?_)
  · refine gc_iast hC hk.1 hin dX5_becomes_9 ?_
    refine gc_letS (fun s4 => ?_)
    refine gc_goto hG (tgt := 22) dX5_becomes_10 (by decide) ?_
    refine gc_aload_n hG (v := .ref v0) (refV_a _) dX5_becomes_22 rfl rfl ?_
    refine gc_dup hG dX5_becomes_23 rfl ?_
    refine gc_gd (fun hk => ?_)
    refine gc_get hC (ci := 4) (j := 10) (v := .int (cI s4 36 v0)) hk dX5_becomes_24 rfl (by decide) in_X5 q309 (fun _ h => h) rfl ?_
    refine gc_letv (fun x5 h_ => ?_)
    refine gc_iconst hG (nI 1) dX5_becomes_27 (by decide) ?_
    refine gc_iadd hG dX5_becomes_28 ?_
    refine gc_gd (fun hk => ?_)
    have pt := pt_I (s := s4) (f := 36) (a := v0) (x := (x5 + (nI 1))) rfl
    refine gc_put hC tyX5 tyX5_ok nmX5 hk dX5_becomes_29 (ci := 4) (j := 10) (Or.inl (by decide)) rfl (by decide) in_X5 q309 (fun _ h => h) rfl (tyX5_ok 10 (by decide)) (fun _ => rfl) (fun _ => rfl) pt.1.1 pt.1.2.1 pt.1.2.2.1 pt.1.2.2.2 pt.2.1 pt.2.2.1 pt.2.2.2 ?_
    refine gc_letS (fun s6 => ?_)
    exact gc_vret hC hrt rfl dX5_becomes_32
  · refine gc_iastX hC hk.1 hin hk.2 dX5_becomes_9 (Nat.le_of_ble_eq_true rfl) ?_
    refine gn_catch hC hnL cVm_A (by decide) [] ((tableOf [(0, 10, 13, 98)])[0]) [] (by rw [hT]; rfl) (fun _ h => absurd h List.not_mem_nil) rfl (by decide) q836 q859 rfl ?_
    refine gc_sub [] rfl ?_
    refine gn_letS (fun s7 => ?_)
    refine gc_astore_n hG (refV_a _) dX5_becomes_13 rfl (Nat.le_of_ble_eq_true rfl) (lv' := [(2, _)]) rfl ?_
    refine gc_new hC (ci := 11) tyX14 tyX14_ok rfl in_X14 dX5_becomes_14 q868 q869 q98 (by decide +kernel) ?_
    refine gc_letS (fun s8 => ?_)
    refine gc_dup hG dX5_becomes_17 rfl ?_
    refine gc_callIN (f := fX14_init (cn s7) s8) (As := []) (rest := [.ref (cn s7)]) (n := 0) (d' := 4) (b := (cn s7)) hC hnL (wX14_init (gLn X) Y hl hY (cn s7) s8) dX5_becomes_18 q877 q878 q98 q879 ⟨by decide +kernel, by decide +kernel⟩ rfl rfl (by decide) (by decide) (Nat.le_of_ble_eq_true rfl) (kn_V (fun r9 s10 => ?_)) kx_V
    refine gc_athrow hG dX5_becomes_21 ?_
    refine gx_gd (fun hk => ?_)
    exact gx_outR hC hk (ci := 11) rfl rfl (by rw [hT]; exact all_cons (a := (tableOf [(0, 10, 13, 98)])[0]) (Or.inl rfl) (all_nil))
def fX5_goesBack (v0 : Nat) (t : cS) : Option (Unit × cS) :=
  gd (cK t v0 = 5) (
  letv (cI t 36 v0) (fun x1 =>
  if (nI 1) < x1 then
    gd (cK t v0 = 5) (
    letv (cI t 36 v0) (fun x2 =>
    gd (cK t v0 = 5) (
    letv (sI t 36 v0 (x2 - (nI 1))) (fun s3 =>
    (some ((), s3))
    )
    )
    )
    )
  else
    (some ((), t))
  )
  )
theorem mfX5_goesBack (v0 : Nat) (t : cS) : MO t (fX5_goesBack v0 t) := by
  unfold fX5_goesBack
  refine mo_gd ?_
  refine mo_letv (fun _ => ?_)
  refine mo_ite ?_ ?_
  · refine mo_gd ?_
    refine mo_letv (fun _ => ?_)
    refine mo_gd ?_
    refine mo_letS cMo_sI (fun _ => ?_)
    exact mo_some
  · exact mo_some
set_option maxHeartbeats 4000000 in
theorem wX5_goesBack (l : Launch) (Y : cY) (hl : l.stackTraces = false) (hY : ∀ q, q < Y.2.2.2.2.size → ¬ Y.2.2.2.1 q) (v0 : Nat) (t : cS) : cFn l Y yX5_goesBack (ws_ yX5_goesBack cX5_goesBack 1 none) 1 [.ref v0] t (fX5_goesBack v0 t) rV := by
  refine cmet (av := [.ref v0]) (mfX5_goesBack v0 t) hl hY (by decide +kernel) (lg_le (List.forall_mem_cons.mpr ⟨rfl, fun _ h => absurd h List.not_mem_nil⟩) (Nat.le_of_ble_eq_true rfl)) (lv_args_cat (List.forall_mem_cons.mpr ⟨rfl, fun _ h => absurd h List.not_mem_nil⟩)) ?_
  intro X ad0 hln hC hnL hrt hnm hT hmd
  subst hln
  have hG := hC.1
  rw [lv_args_s (List.forall_mem_cons.mpr ⟨rfl, fun _ h => absurd h List.not_mem_nil⟩)]
  show GC X Y (cM Y X 1 t ad0 rV) _ t 0 [(0, .ref v0)] []
  unfold fX5_goesBack
  refine gc_aload_n hG (v := .ref v0) (refV_a _) dX5_goesBack_0 rfl rfl ?_
  refine gc_gd (fun hk => ?_)
  refine gc_get hC (ci := 4) (j := 10) (v := .int (cI t 36 v0)) hk dX5_goesBack_1 rfl (by decide) in_X5 q309 (fun _ h => h) rfl ?_
  refine gc_letv (fun x1 h_ => ?_)
  refine gc_iconst hG (nI 1) dX5_goesBack_4 (by decide) ?_
  refine gc_icmp_le hG (tgt := 18) dX5_goesBack_5 (by decide) ?_ ?_
  · refine gc_aload_n hG (v := .ref v0) (refV_a _) dX5_goesBack_8 rfl rfl ?_
    refine gc_dup hG dX5_goesBack_9 rfl ?_
    refine gc_gd (fun hk => ?_)
    refine gc_get hC (ci := 4) (j := 10) (v := .int (cI t 36 v0)) hk dX5_goesBack_10 rfl (by decide) in_X5 q309 (fun _ h => h) rfl ?_
    refine gc_letv (fun x2 h_ => ?_)
    refine gc_iconst hG (nI 1) dX5_goesBack_13 (by decide) ?_
    refine gc_isub hG dX5_goesBack_14 ?_
    refine gc_gd (fun hk => ?_)
    have pt := pt_I (s := t) (f := 36) (a := v0) (x := (x2 - (nI 1))) rfl
    refine gc_put hC tyX5 tyX5_ok nmX5 hk dX5_goesBack_15 (ci := 4) (j := 10) (Or.inl (by decide)) rfl (by decide) in_X5 q309 (fun _ h => h) rfl (tyX5_ok 10 (by decide)) (fun _ => rfl) (fun _ => rfl) pt.1.1 pt.1.2.1 pt.1.2.2.1 pt.1.2.2.2 pt.2.1 pt.2.2.1 pt.2.2.2 ?_
    refine gc_letS (fun s3 => ?_)
    exact gc_vret hC hrt rfl dX5_goesBack_18
  · exact gc_vret hC hrt rfl dX5_goesBack_18
def fX3_switches (v0 : Nat) (v1 : Option Nat) (v2 : Option Nat) (t : cS) : Option ((Unit ⊕ Nat) × cS) :=
  rv v2 (fun a1 =>
  gd (cK t a1 = 6) (
  letv (cI t 44 a1) (fun x2 =>
  if x2 < 0 then
    rv v1 (fun a3 =>
    gd (cK t a3 = 5) (
    ob (fX5_goesBack a3 t) (fun r4 s5 =>
    (some ((.inl ()), s5))
    )
    )
    )
  else
    gd (cK t a1 = 6) (
    letv (cI t 44 a1) (fun x6 =>
    rv v1 (fun a7 =>
    gd (cK t a7 = 5) (
    obx (fX5_becomes a7 (irm x6 (nI 10)) t) (fun r8 s9 =>
      (some ((.inl ()), s9))
    ) (fun e10 s11 =>
      gd (cK s11 e10 = 12) (
      some (.inr e10, s11)
      )
    )
    )
    )
    )
    )
  )
  )
  )
theorem mfX3_switches (v0 : Nat) (v1 : Option Nat) (v2 : Option Nat) (t : cS) : MO t (fX3_switches v0 v1 v2 t) := by
  unfold fX3_switches
  refine mo_rv (fun _ => ?_)
  refine mo_gd ?_
  refine mo_letv (fun _ => ?_)
  refine mo_ite ?_ ?_
  · refine mo_rv (fun _ => ?_)
    refine mo_gd ?_
    refine mo_ob (by apply mfX5_goesBack) (fun _ _ => ?_)
    exact mo_some
  · refine mo_gd ?_
    refine mo_letv (fun _ => ?_)
    refine mo_rv (fun _ => ?_)
    refine mo_gd ?_
    refine mo_obx (by apply mfX5_becomes) (fun _ _ => ?_) (fun _ _ => ?_)
    · exact mo_some
    · refine mo_gd ?_
      exact mo_some
set_option maxHeartbeats 4000000 in
theorem wX3_switches (l : Launch) (Y : cY) (hl : l.stackTraces = false) (hY : ∀ q, q < Y.2.2.2.2.size → ¬ Y.2.2.2.1 q) (v0 : Nat) (v1 : Option Nat) (v2 : Option Nat) (t : cS) : cFn l Y yX3_switches (ws_ yX3_switches cX3_switches 3 none) 6 [.ref v0, vr v1, vr v2] t (fX3_switches v0 v1 v2 t) rVx := by
  refine cmet (av := [.ref v0, vr v1, vr v2]) (mfX3_switches v0 v1 v2 t) hl hY (by decide +kernel) (lg_le (List.forall_mem_cons.mpr ⟨rfl, List.forall_mem_cons.mpr ⟨(cat_vr _), List.forall_mem_cons.mpr ⟨(cat_vr _), fun _ h => absurd h List.not_mem_nil⟩⟩⟩) (Nat.le_of_ble_eq_true rfl)) (lv_args_cat (List.forall_mem_cons.mpr ⟨rfl, List.forall_mem_cons.mpr ⟨(cat_vr _), List.forall_mem_cons.mpr ⟨(cat_vr _), fun _ h => absurd h List.not_mem_nil⟩⟩⟩)) ?_
  intro X ad0 hln hC hnL hrt hnm hT hmd
  subst hln
  have hG := hC.1
  rw [lv_args_s (List.forall_mem_cons.mpr ⟨rfl, List.forall_mem_cons.mpr ⟨(cat_vr _), List.forall_mem_cons.mpr ⟨(cat_vr _), fun _ h => absurd h List.not_mem_nil⟩⟩⟩)]
  show GC X Y (cM Y X 3 t ad0 rVx) _ t 0 [(0, .ref v0), (1, vr v1), (2, vr v2)] []
  unfold fX3_switches
  refine gc_aload_n hG (v := vr v2) (refV_x _) dX3_switches_0 rfl rfl ?_
  refine gc_rv (fun a1 h_ => ?_)
  subst h_
  refine gc_gd (fun hk => ?_)
  refine gc_getN hC (ci := 5) (j := 1) (v := .int (cI t 44 a1)) hk dX3_switches_1 rfl (by decide) in_X7 q381 (fun _ h => h) rfl ?_
  refine gc_letv (fun x2 h_ => ?_)
  refine gc_if_ge hG (tgt := 14) dX3_switches_4 (by decide) ?_ ?_
  · refine gc_aload_n hG (v := vr v1) (refV_x _) dX3_switches_7 rfl rfl ?_
    refine gc_rv (fun a3 h_ => ?_)
    subst h_
    refine gc_gd (fun hk => ?_)
    refine gc_callV (f := fX5_goesBack a3 t) (As := []) (rest := []) (n := 0) (d' := 1) (b := a3) hC hnL (wX5_goesBack (gLn X) Y hl hY a3 t) hk (ci := 4) rfl dX3_switches_8 q828 q829 q830 q79 q831 ⟨by decide +kernel, by decide +kernel⟩ rfl (by decide) (by decide) (Nat.le_of_ble_eq_true rfl) (kn_V (fun r4 s5 => ?_)) kx_V
    refine gc_goto hG (tgt := 25) dX3_switches_11 (by decide) ?_
    exact gc_vret hC hrt rfl dX3_switches_25
  · refine gc_aload_n hG (v := vr v1) (refV_x _) dX3_switches_14 rfl rfl ?_
    refine gc_aload_n hG (v := .ref a1) (refV_a _) dX3_switches_15 rfl rfl ?_
    refine gc_gd (fun hk => ?_)
    refine gc_getN hC (ci := 5) (j := 1) (v := .int (cI t 44 a1)) hk dX3_switches_16 rfl (by decide) in_X7 q381 (fun _ h => h) rfl ?_
    refine gc_letv (fun x6 h_ => ?_)
    refine gc_bipush hG (nI 10) dX3_switches_19 (by decide) ?_
    refine gc_irem hG dX3_switches_21 (by decide) ?_
    refine gc_rv (fun a7 h_ => ?_)
    subst h_
    refine gc_gd (fun hk => ?_)
    refine gc_callVX (f := fX5_becomes a7 (irm x6 (nI 10)) t) (As := [.int (irm x6 (nI 10))]) (rest := []) (n := 1) (d' := 5) (b := a7) hC hnL (wX5_becomes (gLn X) Y hl hY a7 (irm x6 (nI 10)) t) hk (ci := 4) rfl dX3_switches_22 q832 q833 q834 q79 q835 ⟨by decide +kernel, by decide +kernel⟩ rfl (by decide) (by decide) (Nat.le_of_ble_eq_true rfl) (kn_Vx (fun r8 s9 => ?_)) (kx_Vx (fun e10 s11 => ?_))
    · exact gc_vret hC hrt rfl dX3_switches_25
    · refine gx_gd (fun hk => ?_)
      exact gx_outR hC hk (ci := 11) rfl rfl (by rw [hT]; intro z hz; cases hz)
def fJ4_init (v0 : Nat) (t : cS) : Option (Unit × cS) :=
  (some ((), t))
theorem mfJ4_init (v0 : Nat) (t : cS) : MO t (fJ4_init v0 t) := by
  unfold fJ4_init
  exact mo_some
set_option maxHeartbeats 4000000 in
theorem wJ4_init (l : Launch) (Y : cY) (hl : l.stackTraces = false) (hY : ∀ q, q < Y.2.2.2.2.size → ¬ Y.2.2.2.1 q) (v0 : Nat) (t : cS) : cFn l Y yJ4_init (ws_ yJ4_init cJ4_init 1 none) 1 [.ref v0] t (fJ4_init v0 t) rV := by
  refine cmet (av := [.ref v0]) (mfJ4_init v0 t) hl hY (by decide +kernel) (lg_le (List.forall_mem_cons.mpr ⟨rfl, fun _ h => absurd h List.not_mem_nil⟩) (Nat.le_of_ble_eq_true rfl)) (lv_args_cat (List.forall_mem_cons.mpr ⟨rfl, fun _ h => absurd h List.not_mem_nil⟩)) ?_
  intro X ad0 hln hC hnL hrt hnm hT hmd
  subst hln
  have hG := hC.1
  rw [lv_args_s (List.forall_mem_cons.mpr ⟨rfl, fun _ h => absurd h List.not_mem_nil⟩)]
  show GC X Y (cM Y X 1 t ad0 rV) _ t 0 [(0, .ref v0)] []
  unfold fJ4_init
  refine gc_aload_n hG (v := .ref v0) (refV_a _) dJ4_init_0 rfl rfl ?_
  refine gc_objInit hC hnL q951 q113 q114 dJ4_init_1 (Nat.le_of_ble_eq_true rfl) ?_
  exact gc_vret hC hrt rfl dJ4_init_4
def fJ5_init (v0 : Nat) (v1 : Int32) (t : cS) : Option (Unit × cS) :=
  ob (fJ4_init v0 t) (fun r1 s2 =>
  gd (cK s2 v0 = 17 ∧ 300 ≤ v0) (
  letv (sI s2 69 v0 v1) (fun s3 =>
  (some ((), s3))
  )
  )
  )
theorem mfJ5_init (v0 : Nat) (v1 : Int32) (t : cS) : MO t (fJ5_init v0 v1 t) := by
  unfold fJ5_init
  refine mo_ob (by apply mfJ4_init) (fun _ _ => ?_)
  refine mo_gd ?_
  refine mo_letS cMo_sI (fun _ => ?_)
  exact mo_some
set_option maxHeartbeats 4000000 in
theorem wJ5_init (l : Launch) (Y : cY) (hl : l.stackTraces = false) (hY : ∀ q, q < Y.2.2.2.2.size → ¬ Y.2.2.2.1 q) (v0 : Nat) (v1 : Int32) (t : cS) : cFn l Y yJ5_init (ws_ yJ5_init cJ5_init 2 none) 2 [.ref v0, .int v1] t (fJ5_init v0 v1 t) rV := by
  refine cmet (av := [.ref v0, .int v1]) (mfJ5_init v0 v1 t) hl hY (by decide +kernel) (lg_le (List.forall_mem_cons.mpr ⟨rfl, List.forall_mem_cons.mpr ⟨rfl, fun _ h => absurd h List.not_mem_nil⟩⟩) (Nat.le_of_ble_eq_true rfl)) (lv_args_cat (List.forall_mem_cons.mpr ⟨rfl, List.forall_mem_cons.mpr ⟨rfl, fun _ h => absurd h List.not_mem_nil⟩⟩)) ?_
  intro X ad0 hln hC hnL hrt hnm hT hmd
  subst hln
  have hG := hC.1
  rw [lv_args_s (List.forall_mem_cons.mpr ⟨rfl, List.forall_mem_cons.mpr ⟨rfl, fun _ h => absurd h List.not_mem_nil⟩⟩)]
  show GC X Y (cM Y X 2 t ad0 rV) _ t 0 [(0, .ref v0), (1, .int v1)] []
  unfold fJ5_init
  refine gc_aload_n hG (v := .ref v0) (refV_a _) dJ5_init_0 rfl rfl ?_
  refine gc_callI (f := fJ4_init v0 t) (As := []) (rest := []) (n := 0) (d' := 1) (b := v0) hC hnL (wJ4_init (gLn X) Y hl hY v0 t) dJ5_init_1 q948 q949 q88 q950 ⟨by decide +kernel, by decide +kernel⟩ rfl rfl (by decide) (by decide) (Nat.le_of_ble_eq_true rfl) (kn_V (fun r1 s2 => ?_)) kx_V
  refine gc_aload_n hG (v := .ref v0) (refV_a _) dJ5_init_4 rfl rfl ?_
  refine gc_iload_n hG dJ5_init_5 rfl rfl ?_
  refine gc_gd (fun hk => ?_)
  have pt := pt_I (s := s2) (f := 69) (a := v0) (x := v1) rfl
  refine gc_putF hC tyJ5 tyJ5_ok nmJ5 hk.1 dJ5_init_6 (ci := 16) (j := 0) (Or.inr hk.2) rfl (by decide) in_J5 q952 (fun _ h => h) rfl (by rw [hnm]; rfl) rfl (tyJ5_ok 0 (by decide)) (fun _ => rfl) (fun _ => rfl) pt.1.1 pt.1.2.1 pt.1.2.2.1 pt.1.2.2.2 pt.2.1 pt.2.2.1 pt.2.2.2 ?_
  refine gc_letS (fun s3 => ?_)
  exact gc_vret hC hrt rfl dJ5_init_9
def fJ5_valueOf (v0 : Int32) (t : cS) : Option (Option Nat × cS) :=
  jn (fun  (t1 : cS) =>
    letv (sN t1 17 0 1) (fun s3 =>
    ob (fJ5_init (cn t1) v0 s3) (fun r4 s5 =>
    (some ((some (cn t1)), s5))
    )
    )
    ) (fun (j2 : cS → Option (Option Nat × cS)) =>
    if v0 < (-128 : Int32) then
      j2 t
    else
      if (nI 127) < v0 then
        j2 t
      else
        gd (cK t 256 = 24) (
        gd (cK t (256) = 24 ∧ cIn t (256) (v0 + (nI 128))) (
        letv (cR t (er ((v0 + (nI 128))).toNatClampNeg) (256)) (fun x8 =>
        (some (x8, t))
        )
        )
        )
    )
theorem mfJ5_valueOf (v0 : Int32) (t : cS) : MO t (fJ5_valueOf v0 t) := by
  unfold fJ5_valueOf
  refine mo_jn (fun j_ => ∀ ( t1 : cS ), MO t1 (j_ t1)) (fun t1 => ?_) (fun j2 hj2 => ?_)
  · refine mo_letS cMo_sN (fun _ => ?_)
    refine mo_ob (by apply mfJ5_init) (fun _ _ => ?_)
    exact mo_some
  · refine mo_ite ?_ ?_
    · exact hj2 _
    · refine mo_ite ?_ ?_
      · exact hj2 _
      · refine mo_gd ?_
        refine mo_gd ?_
        refine mo_letv (fun _ => ?_)
        exact mo_some
set_option maxHeartbeats 4000000 in
theorem wJ5_valueOf (l : Launch) (Y : cY) (hl : l.stackTraces = false) (hY : ∀ q, q < Y.2.2.2.2.size → ¬ Y.2.2.2.1 q) (v0 : Int32) (t : cS) : cFn l Y yJ5_valueOf (ws_ yJ5_valueOf cJ5_valueOf 1 (some (.object "java/lang/Integer"))) 3 [.int v0] t (fJ5_valueOf v0 t) rR := by
  refine cmet (av := [.int v0]) (mfJ5_valueOf v0 t) hl hY (by decide +kernel) (lg_le (List.forall_mem_cons.mpr ⟨rfl, fun _ h => absurd h List.not_mem_nil⟩) (Nat.le_of_ble_eq_true rfl)) (lv_args_cat (List.forall_mem_cons.mpr ⟨rfl, fun _ h => absurd h List.not_mem_nil⟩)) ?_
  intro X ad0 hln hC hnL hrt hnm hT hmd
  subst hln
  have hG := hC.1
  rw [lv_args_s (List.forall_mem_cons.mpr ⟨rfl, fun _ h => absurd h List.not_mem_nil⟩)]
  show GC X Y (cM Y X 1 t ad0 rR) _ t 0 [(0, .int v0)] []
  unfold fJ5_valueOf
  refine gc_iload_n hG dJ5_valueOf_0 rfl rfl ?_
  refine gc_bipush hG (-128 : Int32) dJ5_valueOf_1 (by decide) ?_
  refine gc_jn (fun j_ => ∀  (t1 : cS), GC X Y (cM Y X 1 t ad0 rR) (j_ t1) t1 23 [(0, .int v0)] []) (fun t1 => ?_) (fun j2 hj2 => ?_)
  · refine gc_new hC (ci := 16) tyJ5 tyJ5_ok rfl in_J5 dJ5_valueOf_23 q943 q944 q89 (by decide +kernel) ?_
    refine gc_letS (fun s3 => ?_)
    refine gc_dup hG dJ5_valueOf_26 rfl ?_
    refine gc_iload_n hG dJ5_valueOf_27 rfl rfl ?_
    refine gc_callI (f := fJ5_init (cn t1) v0 s3) (As := [.int v0]) (rest := [.ref (cn t1)]) (n := 1) (d' := 2) (b := (cn t1)) hC hnL (wJ5_init (gLn X) Y hl hY (cn t1) v0 s3) dJ5_valueOf_28 q945 q946 q89 q947 ⟨by decide +kernel, by decide +kernel⟩ rfl rfl (by decide) (by decide) (Nat.le_of_ble_eq_true rfl) (kn_V (fun r4 s5 => ?_)) kx_V
    exact gc_aret hC hrt (Or.inl ⟨_, rfl⟩) (refV_a _) rfl dJ5_valueOf_31
  · refine gc_icmp_lt hG (tgt := 23) dJ5_valueOf_3 (by decide) ?_ ?_
    · exact hj2 t
    · refine gc_iload_n hG dJ5_valueOf_6 rfl rfl ?_
      refine gc_getHi hC q939 (fun _ h => h) dJ5_valueOf_7 ?_
      refine gc_icmp_gt hG (tgt := 23) dJ5_valueOf_10 (by decide) ?_ ?_
      · exact hj2 t
      · refine gc_gd (fun hk => ?_)
        refine gc_getCa hC hk q941 (fun _ h => h) dJ5_valueOf_13 ?_
        refine gc_iload_n hG dJ5_valueOf_16 rfl rfl ?_
        refine gc_sipush hG (nI 128) dJ5_valueOf_17 (by decide) ?_
        refine gc_iadd hG dJ5_valueOf_20 ?_
        refine gc_gd (fun hk => ?_)
        refine gc_aald hC hk.1 (by decide) (by decide) (t0 := 4) rfl hk.2 dJ5_valueOf_21 ?_
        refine gc_letr (fun x8 h_ => ?_)
        exact gc_aret hC hrt (Or.inl ⟨_, rfl⟩) (refV_x _) rfl dJ5_valueOf_22
def fX5_isWatchedBy_L8 (v1 : Int32) (v2 : Option Nat) (kx : cS → Option (Int32 × cS)) : Nat → cS → Option (Int32 × cS)
  | 0, _ => none
  | k + 1, t =>
    rv v2 (fun a5 =>
    gd (cK t a5 = 8) (
    ob (fX9_hasNext a5 t) (fun r6 s7 =>
    if r6 = 0 then
      kx s7
    else
      gd (cK s7 a5 = 8) (
      ob (fX9_next a5 s7) (fun r8 s9 =>
      rv r8 (fun a10 =>
      gd (cK s9 a10 = 17) (
      gd (cK s9 a10 = 17) (
      ob (fJ5_intValue a10 s9) (fun r11 s12 =>
      if r11 = v1 then
        (some ((nI 1), s12))
      else
        fX5_isWatchedBy_L8 v1 v2 kx k s12
      )
      )
      )
      )
      )
      )
    )
    )
    )
theorem mfX5_isWatchedBy_L8 (v1 : Int32) (v2 : Option Nat) (kx : cS → Option (Int32 × cS)) (hkx : ∀  (t : cS), MO t (kx t)) : ∀ (k : Nat)  (t : cS), MO t (fX5_isWatchedBy_L8 v1 v2 kx k t) := by
  intro k
  induction k with
  | zero => intro t; exact mo_none
  | succ k ih =>
    intro t
    rw [fX5_isWatchedBy_L8]
    refine mo_rv (fun _ => ?_)
    refine mo_gd ?_
    refine mo_ob (by apply mfX9_hasNext) (fun _ _ => ?_)
    refine mo_ite ?_ ?_
    · exact hkx _
    · refine mo_gd ?_
      refine mo_ob (by apply mfX9_next) (fun _ _ => ?_)
      refine mo_rv (fun _ => ?_)
      refine mo_gd ?_
      refine mo_gd ?_
      refine mo_ob (by apply mfJ5_intValue) (fun _ _ => ?_)
      refine mo_ite ?_ ?_
      · exact mo_some
      · exact ih _
set_option maxHeartbeats 4000000 in
theorem gfX5_isWatchedBy_L8 {X : gCx} {Y : cY} {s0 : cS} {ad0 : Nat → Nat} (hC : cOk X Y RX5 cX5_isWatchedBy 3) (hl : (gLn X).stackTraces = false) (hY : ∀ q, q < Y.2.2.2.2.size → ¬ Y.2.2.2.1 q) (hnL : gLoc X = 4) (hrt : gRet X = (some .boolean)) (hnm : X.2.2.2.2.2.2.2.2.1.name = "isWatchedBy") (hT : gTab X = []) (hmd : (gSt X).methodNamed? yX5_isWatchedBy = some (gMe X)) (v1 : Int32) (v2 : Option Nat) (kx : cS → Option (Int32 × cS)) (hkx : ∀  (t : cS), GC X Y (cM Y X 4 s0 ad0 rI) (kx t) t 40 [] []) : ∀ (k : Nat)  (t : cS), GC X Y (cM Y X 4 s0 ad0 rI) (fX5_isWatchedBy_L8 v1 v2 kx k t) t 8 [(1, .int v1), (2, vr v2)] [] := by
  have hG := hC.1
  intro k
  induction k with
  | zero => intro t; exact gc_none
  | succ k ih =>
    intro t
    rw [fX5_isWatchedBy_L8]
    refine gc_aload_n hG (v := vr v2) (refV_x _) dX5_isWatchedBy_8 rfl rfl ?_
    refine gc_rv (fun a5 h_ => ?_)
    subst h_
    refine gc_gd (fun hk => ?_)
    refine gc_callF (f := fX9_hasNext a5 t) (As := []) (rest := []) (n := 0) (d' := 1) (b := a5) (x := ⟨"java/util/Iterator", "hasNext", "()Z"⟩) hC hnL (wX9_hasNext (gLn X) Y hl hY a5 t) hk (ci := 7) rfl dX5_isWatchedBy_9 q477 (by decide +kernel) q458 q456 q83 q460 (by decide +kernel) rfl (by decide) (by decide) (Nat.le_of_ble_eq_true rfl) (kn_I (fun r6 s7 => ?_)) kx_I
    refine gc_if_eq hG (tgt := 40) dX5_isWatchedBy_14 (by decide) ?_ ?_
    · refine gc_sub [] rfl ?_
      exact hkx s7
    · refine gc_aload_n hG (v := .ref a5) (refV_a _) dX5_isWatchedBy_17 rfl rfl ?_
      refine gc_gd (fun hk => ?_)
      refine gc_callF (f := fX9_next a5 s7) (As := []) (rest := []) (n := 0) (d' := 1) (b := a5) (x := ⟨"java/util/Iterator", "next", "()Ljava/lang/Object;"⟩) hC hnL (wX9_next (gLn X) Y hl hY a5 s7) hk (ci := 7) rfl dX5_isWatchedBy_18 q479 (by decide +kernel) q467 q465 q83 q469 (by decide +kernel) rfl (by decide) (by decide) (Nat.le_of_ble_eq_true rfl) (kn_R (fun r8 s9 => ?_)) kx_R
      refine gc_rv (fun a10 h_ => ?_)
      subst h_
      refine gc_gd (fun hk => ?_)
      refine gc_castE hC hk (ci := 16) rfl q480 dX5_isWatchedBy_23 ?_
      refine gc_gd (fun hk => ?_)
      refine gc_callV (f := fJ5_intValue a10 s9) (As := []) (rest := []) (n := 0) (d' := 1) (b := a10) hC hnL (wJ5_intValue (gLn X) Y hl hY a10 s9) hk (ci := 16) rfl dX5_isWatchedBy_26 q275 q276 q277 q89 q278 ⟨by decide +kernel, by decide +kernel⟩ rfl (by decide) (by decide) (Nat.le_of_ble_eq_true rfl) (kn_I (fun r11 s12 => ?_)) kx_I
      refine gc_istore_n hG dX5_isWatchedBy_29 rfl (Nat.le_of_ble_eq_true rfl) (lv' := [(1, _), (2, _), (3, _)]) rfl ?_
      refine gc_iload_n hG dX5_isWatchedBy_30 rfl rfl ?_
      refine gc_iload_n hG dX5_isWatchedBy_31 rfl rfl ?_
      refine gc_icmp_ne hG (tgt := 37) dX5_isWatchedBy_32 (by decide) ?_ ?_
      · refine gc_iconst hG (nI 1) dX5_isWatchedBy_35 (by decide) ?_
        exact gc_iret hC hrt (by decide) rfl dX5_isWatchedBy_36
      · refine gc_goto hG (tgt := 8) dX5_isWatchedBy_37 (by decide) ?_
        refine gc_sub [0, 1] rfl ?_
        exact ih s12
def fX5_isWatchedBy (v0 : Nat) (v1 : Int32) (t : cS) : Option (Int32 × cS) :=
  gd (cK t v0 = 5) (
  letv (cR t 39 v0) (fun x1 =>
  rv x1 (fun a2 =>
  gd (cK t a2 = 3) (
  ob (fX2_iterator a2 t) (fun r3 s4 =>
  fX5_isWatchedBy_L8 v1 r3 (fun  (t13 : cS) =>
    (some ((nI 0), t13))
    ) FU s4
  )
  )
  )
  )
  )
theorem mfX5_isWatchedBy (v0 : Nat) (v1 : Int32) (t : cS) : MO t (fX5_isWatchedBy v0 v1 t) := by
  unfold fX5_isWatchedBy
  refine mo_gd ?_
  refine mo_letv (fun _ => ?_)
  refine mo_rv (fun _ => ?_)
  refine mo_gd ?_
  refine mo_ob (by apply mfX2_iterator) (fun _ _ => ?_)
  refine mfX5_isWatchedBy_L8 _ _ _ (fun _ => ?_) _ _
  exact mo_some
set_option maxHeartbeats 4000000 in
theorem wX5_isWatchedBy (l : Launch) (Y : cY) (hl : l.stackTraces = false) (hY : ∀ q, q < Y.2.2.2.2.size → ¬ Y.2.2.2.1 q) (v0 : Nat) (v1 : Int32) (t : cS) : cFn l Y yX5_isWatchedBy (ws_ yX5_isWatchedBy cX5_isWatchedBy 4 (some .boolean)) 3 [.ref v0, .int v1] t (fX5_isWatchedBy v0 v1 t) rI := by
  refine cmet (av := [.ref v0, .int v1]) (mfX5_isWatchedBy v0 v1 t) hl hY (by decide +kernel) (lg_le (List.forall_mem_cons.mpr ⟨rfl, List.forall_mem_cons.mpr ⟨rfl, fun _ h => absurd h List.not_mem_nil⟩⟩) (Nat.le_of_ble_eq_true rfl)) (lv_args_cat (List.forall_mem_cons.mpr ⟨rfl, List.forall_mem_cons.mpr ⟨rfl, fun _ h => absurd h List.not_mem_nil⟩⟩)) ?_
  intro X ad0 hln hC hnL hrt hnm hT hmd
  subst hln
  have hG := hC.1
  rw [lv_args_s (List.forall_mem_cons.mpr ⟨rfl, List.forall_mem_cons.mpr ⟨rfl, fun _ h => absurd h List.not_mem_nil⟩⟩)]
  show GC X Y (cM Y X 4 t ad0 rI) _ t 0 [(0, .ref v0), (1, .int v1)] []
  unfold fX5_isWatchedBy
  refine gc_aload_n hG (v := .ref v0) (refV_a _) dX5_isWatchedBy_0 rfl rfl ?_
  refine gc_gd (fun hk => ?_)
  refine gc_get hC (ci := 4) (j := 13) (v := vr (cR t 39 v0)) hk dX5_isWatchedBy_1 rfl (by decide) in_X5 q318 (fun _ h => h) rfl ?_
  refine gc_letr (fun x1 h_ => ?_)
  refine gc_rv (fun a2 h_ => ?_)
  subst h_
  refine gc_gd (fun hk => ?_)
  refine gc_callV (f := fX2_iterator a2 t) (As := []) (rest := []) (n := 0) (d' := 2) (b := a2) hC hnL (wX2_iterator (gLn X) Y hl hY a2 t) hk (ci := 2) rfl dX5_isWatchedBy_4 q475 q435 q436 q76 q437 ⟨by decide +kernel, by decide +kernel⟩ rfl (by decide) (by decide) (Nat.le_of_ble_eq_true rfl) (kn_R (fun r3 s4 => ?_)) kx_R
  refine gc_astore_n hG (refV_x _) dX5_isWatchedBy_7 rfl (Nat.le_of_ble_eq_true rfl) (lv' := [(0, _), (1, _), (2, _)]) rfl ?_
  refine gc_sub [1, 2] rfl ?_
  refine gfX5_isWatchedBy_L8 (s0 := t) (ad0 := ad0) hC hl hY hnL hrt hnm hT hmd v1 r3  _ (fun t13 => ?_) FU s4
  refine gc_iconst hG (nI 0) dX5_isWatchedBy_40 (by decide) ?_
  exact gc_iret hC hrt (by decide) rfl dX5_isWatchedBy_41
def fX3_watches (v0 : Nat) (v1 : Option Nat) (v2 : Option Nat) (t : cS) : Option (Unit × cS) :=
  gd (cK t v0 = 4) (
  letv (cR t 25 v0) (fun x1 =>
  rv x1 (fun a2 =>
  gd (cK t a2 = 2) (
  letv (cR t 6 a2) (fun x3 =>
  rv v2 (fun a4 =>
  gd (cK t a4 = 6) (
  letv (cI t 44 a4) (fun x5 =>
  jn (fun (x6 : Int32) (t7 : cS) =>
    gd (cK t7 v0 = 4) (
    letv (cR t7 25 v0) (fun x9 =>
    rv x9 (fun a10 =>
    gd (cK t7 a10 = 2) (
    letv (cI t7 7 a10) (fun x11 =>
    gd (¬ x11 = 0) (
    rv x3 (fun a12 =>
    gd (cK t7 a12 = 23 ∧ cIn t7 a12 (irm x6 x11)) (
    letv (cR t7 (er ((irm x6 x11)).toNatClampNeg) a12) (fun x13 =>
    rv v1 (fun a14 =>
    rv x13 (fun a15 =>
    gd (cK t7 a15 ≠ 99 ∧ cK t7 a14 ≠ 99) (
    if a15 = a14 then
      (some ((), t7))
    else
      gd (cK t7 a15 = 5) (
      letv (cI t7 33 a15) (fun x16 =>
      if x16 = 0 then
        gd (cK t7 v0 = 4) (
        letv (cR t7 25 v0) (fun x17 =>
        letv (sN t7 9 0 2) (fun s18 =>
        gd (cK s18 a15 = 5) (
        letv (cI s18 26 a15) (fun x19 =>
        ob (fX10_init (cn t7) x19 s18) (fun r20 s21 =>
        rv x17 (fun a22 =>
        gd (cK s21 a22 = 2) (
        ob (fX1_sends a22 (some a14) (some (cn t7)) s21) (fun r23 s24 =>
        (some ((), s24))
        )
        )
        )
        )
        )
        )
        )
        )
        )
      else
        gd (cK t7 a14 = 5) (
        letv (cI t7 26 a14) (fun x25 =>
        gd (cK t7 a15 = 5) (
        ob (fX5_isWatchedBy a15 x25 t7) (fun r26 s27 =>
        if r26 = 0 then
          gd (cK s27 a15 = 5) (
          letv (cR s27 39 a15) (fun x28 =>
          gd (cK s27 a14 = 5) (
          letv (cI s27 26 a14) (fun x29 =>
          ob (fJ5_valueOf x29 s27) (fun r30 s31 =>
          rv x28 (fun a32 =>
          gd (cK s31 a32 = 3) (
          ob (fX2_puts a32 r30 s31) (fun r33 s34 =>
          (some ((), s34))
          )
          )
          )
          )
          )
          )
          )
          )
        else
          (some ((), s27))
        )
        )
        )
        )
      )
      )
    )
    )
    )
    )
    )
    )
    )
    )
    )
    )
    )
    )
    ) (fun (j8 : Int32 → cS → Option (Unit × cS)) =>
    if x5 < 0 then
      gd (cK t a4 = 6) (
      letv (cI t 44 a4) (fun x35 =>
      j8 (x35 + (nI 99)) t
      )
      )
    else
      gd (cK t a4 = 6) (
      letv (cI t 44 a4) (fun x36 =>
      j8 x36 t
      )
      )
    )
  )
  )
  )
  )
  )
  )
  )
  )
theorem mfX3_watches (v0 : Nat) (v1 : Option Nat) (v2 : Option Nat) (t : cS) : MO t (fX3_watches v0 v1 v2 t) := by
  unfold fX3_watches
  refine mo_gd ?_
  refine mo_letv (fun _ => ?_)
  refine mo_rv (fun _ => ?_)
  refine mo_gd ?_
  refine mo_letv (fun _ => ?_)
  refine mo_rv (fun _ => ?_)
  refine mo_gd ?_
  refine mo_letv (fun _ => ?_)
  refine mo_jn (fun j_ => ∀ ( x6 : Int32 ) ( t7 : cS ), MO t7 (j_ x6 t7)) (fun x6 t7 => ?_) (fun j8 hj8 => ?_)
  · refine mo_gd ?_
    refine mo_letv (fun _ => ?_)
    refine mo_rv (fun _ => ?_)
    refine mo_gd ?_
    refine mo_letv (fun _ => ?_)
    refine mo_gd ?_
    refine mo_rv (fun _ => ?_)
    refine mo_gd ?_
    refine mo_letv (fun _ => ?_)
    refine mo_rv (fun _ => ?_)
    refine mo_rv (fun _ => ?_)
    refine mo_gd ?_
    refine mo_ite ?_ ?_
    · exact mo_some
    · refine mo_gd ?_
      refine mo_letv (fun _ => ?_)
      refine mo_ite ?_ ?_
      · refine mo_gd ?_
        refine mo_letv (fun _ => ?_)
        refine mo_letS cMo_sN (fun _ => ?_)
        refine mo_gd ?_
        refine mo_letv (fun _ => ?_)
        refine mo_ob (by apply mfX10_init) (fun _ _ => ?_)
        refine mo_rv (fun _ => ?_)
        refine mo_gd ?_
        refine mo_ob (by apply mfX1_sends) (fun _ _ => ?_)
        exact mo_some
      · refine mo_gd ?_
        refine mo_letv (fun _ => ?_)
        refine mo_gd ?_
        refine mo_ob (by apply mfX5_isWatchedBy) (fun _ _ => ?_)
        refine mo_ite ?_ ?_
        · refine mo_gd ?_
          refine mo_letv (fun _ => ?_)
          refine mo_gd ?_
          refine mo_letv (fun _ => ?_)
          refine mo_ob (by apply mfJ5_valueOf) (fun _ _ => ?_)
          refine mo_rv (fun _ => ?_)
          refine mo_gd ?_
          refine mo_ob (by apply mfX2_puts) (fun _ _ => ?_)
          exact mo_some
        · exact mo_some
  · refine mo_ite ?_ ?_
    · refine mo_gd ?_
      refine mo_letv (fun _ => ?_)
      exact hj8 _ _
    · refine mo_gd ?_
      refine mo_letv (fun _ => ?_)
      exact hj8 _ _
set_option maxHeartbeats 4000000 in
theorem wX3_watches (l : Launch) (Y : cY) (hl : l.stackTraces = false) (hY : ∀ q, q < Y.2.2.2.2.size → ¬ Y.2.2.2.1 q) (v0 : Nat) (v1 : Option Nat) (v2 : Option Nat) (t : cS) : cFn l Y yX3_watches (ws_ yX3_watches cX3_watches 4 none) 4 [.ref v0, vr v1, vr v2] t (fX3_watches v0 v1 v2 t) rV := by
  refine cmet (av := [.ref v0, vr v1, vr v2]) (mfX3_watches v0 v1 v2 t) hl hY (by decide +kernel) (lg_le (List.forall_mem_cons.mpr ⟨rfl, List.forall_mem_cons.mpr ⟨(cat_vr _), List.forall_mem_cons.mpr ⟨(cat_vr _), fun _ h => absurd h List.not_mem_nil⟩⟩⟩) (Nat.le_of_ble_eq_true rfl)) (lv_args_cat (List.forall_mem_cons.mpr ⟨rfl, List.forall_mem_cons.mpr ⟨(cat_vr _), List.forall_mem_cons.mpr ⟨(cat_vr _), fun _ h => absurd h List.not_mem_nil⟩⟩⟩)) ?_
  intro X ad0 hln hC hnL hrt hnm hT hmd
  subst hln
  have hG := hC.1
  rw [lv_args_s (List.forall_mem_cons.mpr ⟨rfl, List.forall_mem_cons.mpr ⟨(cat_vr _), List.forall_mem_cons.mpr ⟨(cat_vr _), fun _ h => absurd h List.not_mem_nil⟩⟩⟩)]
  show GC X Y (cM Y X 4 t ad0 rV) _ t 0 [(0, .ref v0), (1, vr v1), (2, vr v2)] []
  unfold fX3_watches
  refine gc_aload_n hG (v := .ref v0) (refV_a _) dX3_watches_0 rfl rfl ?_
  refine gc_gd (fun hk => ?_)
  refine gc_get hC (ci := 3) (j := 0) (v := vr (cR t 25 v0)) hk dX3_watches_1 rfl (by decide) in_X3 q153 (fun _ h => h) rfl ?_
  refine gc_letr (fun x1 h_ => ?_)
  refine gc_rv (fun a2 h_ => ?_)
  subst h_
  refine gc_gd (fun hk => ?_)
  refine gc_getN hC (ci := 1) (j := 0) (v := vr (cR t 6 a2)) hk dX3_watches_4 rfl (by decide) in_X1 q159 (fun _ h => h) rfl ?_
  refine gc_letr (fun x3 h_ => ?_)
  refine gc_aload_n hG (v := vr v2) (refV_x _) dX3_watches_7 rfl rfl ?_
  refine gc_rv (fun a4 h_ => ?_)
  subst h_
  refine gc_gd (fun hk => ?_)
  refine gc_getN hC (ci := 5) (j := 1) (v := .int (cI t 44 a4)) hk dX3_watches_8 rfl (by decide) in_X7 q381 (fun _ h => h) rfl ?_
  refine gc_letv (fun x5 h_ => ?_)
  refine gc_jn (fun j_ => ∀ (x6 : Int32) (t7 : cS), GC X Y (cM Y X 4 t ad0 rV) (j_ x6 t7) t7 28 [(0, .ref v0), (1, vr v1)] [.int x6, vr x3]) (fun x6 t7 => ?_) (fun j8 hj8 => ?_)
  · refine gc_aload_n hG (v := .ref v0) (refV_a _) dX3_watches_28 rfl rfl ?_
    refine gc_gd (fun hk => ?_)
    refine gc_get hC (ci := 3) (j := 0) (v := vr (cR t7 25 v0)) hk dX3_watches_29 rfl (by decide) in_X3 q153 (fun _ h => h) rfl ?_
    refine gc_letr (fun x9 h_ => ?_)
    refine gc_rv (fun a10 h_ => ?_)
    subst h_
    refine gc_gd (fun hk => ?_)
    refine gc_getN hC (ci := 1) (j := 1) (v := .int (cI t7 7 a10)) hk dX3_watches_32 rfl (by decide) in_X1 q163 (fun _ h => h) rfl ?_
    refine gc_letv (fun x11 h_ => ?_)
    refine gc_gd (fun hnz => ?_)
    refine gc_irem hG dX3_watches_35 hnz ?_
    refine gc_rv (fun a12 h_ => ?_)
    subst h_
    refine gc_gd (fun hk => ?_)
    refine gc_aald hC hk.1 (by decide) (by decide) (t0 := 3) rfl hk.2 dX3_watches_36 ?_
    refine gc_letr (fun x13 h_ => ?_)
    refine gc_astore_n hG (refV_x _) dX3_watches_37 rfl (Nat.le_of_ble_eq_true rfl) (lv' := [(0, _), (1, _), (3, _)]) rfl ?_
    refine gc_aload_n hG (v := vr x13) (refV_x _) dX3_watches_38 rfl rfl ?_
    refine gc_aload_n hG (v := vr v1) (refV_x _) dX3_watches_39 rfl rfl ?_
    refine gc_rv (fun a14 h_ => ?_)
    subst h_
    refine gc_rv (fun a15 h_ => ?_)
    subst h_
    refine gc_gd (fun hk => ?_)
    refine gc_acmp_ne hG (tgt := 44) hk.1 hk.2 dX3_watches_40 (by decide) ?_ ?_
    · exact gc_vret hC hrt rfl dX3_watches_43
    · refine gc_aload_n hG (v := .ref a15) (refV_a _) dX3_watches_44 rfl rfl ?_
      refine gc_gd (fun hk => ?_)
      refine gc_getN hC (ci := 4) (j := 7) (v := .int (cI t7 33 a15)) hk dX3_watches_45 rfl (by decide) in_X5 q301 (fun _ h => h) rfl ?_
      refine gc_letv (fun x16 h_ => ?_)
      refine gc_if_ne hG (tgt := 74) dX3_watches_48 (by decide) ?_ ?_
      · refine gc_aload_n hG (v := .ref v0) (refV_a _) dX3_watches_51 rfl rfl ?_
        refine gc_gd (fun hk => ?_)
        refine gc_get hC (ci := 3) (j := 0) (v := vr (cR t7 25 v0)) hk dX3_watches_52 rfl (by decide) in_X3 q153 (fun _ h => h) rfl ?_
        refine gc_letr (fun x17 h_ => ?_)
        refine gc_aload_n hG (v := .ref a14) (refV_a _) dX3_watches_55 rfl rfl ?_
        refine gc_new hC (ci := 8) tyX10 tyX10_ok rfl in_X10 dX3_watches_56 q930 q674 q90 (by decide +kernel) ?_
        refine gc_letS (fun s18 => ?_)
        refine gc_dup hG dX3_watches_59 rfl ?_
        refine gc_aload_n hG (v := .ref a15) (refV_a _) dX3_watches_60 rfl rfl ?_
        refine gc_gd (fun hk => ?_)
        refine gc_getN hC (ci := 4) (j := 0) (v := .int (cI s18 26 a15)) hk dX3_watches_61 rfl (by decide) in_X5 q282 (fun _ h => h) rfl ?_
        refine gc_letv (fun x19 h_ => ?_)
        refine gc_callI (f := fX10_init (cn t7) x19 s18) (As := [.int x19]) (rest := [.ref (cn t7), .ref a14, vr x17]) (n := 1) (d' := 2) (b := (cn t7)) hC hnL (wX10_init (gLn X) Y hl hY (cn t7) x19 s18) dX3_watches_64 q931 q676 q90 q677 ⟨by decide +kernel, by decide +kernel⟩ rfl rfl (by decide) (by decide) (by simp [cat_vr, cat_r, cat_i, cat_n]) (kn_V (fun r20 s21 => ?_)) kx_V
        refine gc_rv (fun a22 h_ => ?_)
        subst h_
        refine gc_gd (fun hk => ?_)
        refine gc_callV (f := fX1_sends a22 (some a14) (some (cn t7)) s21) (As := [.ref a14, .ref (cn t7)]) (rest := []) (n := 2) (d' := 3) (b := a22) hC hnL (wX1_sends (gLn X) Y hl hY a22 (some a14) (some (cn t7)) s21) hk (ci := 1) rfl dX3_watches_67 q772 q391 q392 q75 q393 ⟨by decide +kernel, by decide +kernel⟩ rfl (by decide) (by decide) (Nat.le_of_ble_eq_true rfl) (kn_I (fun r23 s24 => ?_)) kx_I
        refine gc_pop hG dX3_watches_70 rfl ?_
        refine gc_goto hG (tgt := 100) dX3_watches_71 (by decide) ?_
        exact gc_vret hC hrt rfl dX3_watches_100
      · refine gc_aload_n hG (v := .ref a15) (refV_a _) dX3_watches_74 rfl rfl ?_
        refine gc_aload_n hG (v := .ref a14) (refV_a _) dX3_watches_75 rfl rfl ?_
        refine gc_gd (fun hk => ?_)
        refine gc_getN hC (ci := 4) (j := 0) (v := .int (cI t7 26 a14)) hk dX3_watches_76 rfl (by decide) in_X5 q282 (fun _ h => h) rfl ?_
        refine gc_letv (fun x25 h_ => ?_)
        refine gc_gd (fun hk => ?_)
        refine gc_callV (f := fX5_isWatchedBy a15 x25 t7) (As := [.int x25]) (rest := []) (n := 1) (d' := 3) (b := a15) hC hnL (wX5_isWatchedBy (gLn X) Y hl hY a15 x25 t7) hk (ci := 4) rfl dX3_watches_79 q932 q933 q934 q79 q935 ⟨by decide +kernel, by decide +kernel⟩ rfl (by decide) (by decide) (Nat.le_of_ble_eq_true rfl) (kn_I (fun r26 s27 => ?_)) kx_I
        refine gc_if_ne hG (tgt := 100) dX3_watches_82 (by decide) ?_ ?_
        · refine gc_aload_n hG (v := .ref a15) (refV_a _) dX3_watches_85 rfl rfl ?_
          refine gc_gd (fun hk => ?_)
          refine gc_getN hC (ci := 4) (j := 13) (v := vr (cR s27 39 a15)) hk dX3_watches_86 rfl (by decide) in_X5 q321 (fun _ h => h) rfl ?_
          refine gc_letr (fun x28 h_ => ?_)
          refine gc_aload_n hG (v := .ref a14) (refV_a _) dX3_watches_89 rfl rfl ?_
          refine gc_gd (fun hk => ?_)
          refine gc_getN hC (ci := 4) (j := 0) (v := .int (cI s27 26 a14)) hk dX3_watches_90 rfl (by decide) in_X5 q282 (fun _ h => h) rfl ?_
          refine gc_letv (fun x29 h_ => ?_)
          refine gc_callS (f := fJ5_valueOf x29 s27) (As := [.int x29]) (rest := [vr x28]) (n := 1) (d' := 3) hC hnL (wJ5_valueOf (gLn X) Y hl hY x29 s27) dX3_watches_93 q936 q937 q89 q938 ⟨by decide +kernel, by decide +kernel⟩ rfl (by decide) (by decide) (by simp [cat_vr, cat_r, cat_i, cat_n]) (kn_R (fun r30 s31 => ?_)) kx_R
          refine gc_rv (fun a32 h_ => ?_)
          subst h_
          refine gc_gd (fun hk => ?_)
          refine gc_callV (f := fX2_puts a32 r30 s31) (As := [vr r30]) (rest := []) (n := 1) (d' := 2) (b := a32) hC hnL (wX2_puts (gLn X) Y hl hY a32 r30 s31) hk (ci := 2) rfl dX3_watches_96 q956 q395 q396 q76 q397 ⟨by decide +kernel, by decide +kernel⟩ rfl (by decide) (by decide) (Nat.le_of_ble_eq_true rfl) (kn_I (fun r33 s34 => ?_)) kx_I
          refine gc_pop hG dX3_watches_99 rfl ?_
          exact gc_vret hC hrt rfl dX3_watches_100
        · exact gc_vret hC hrt rfl dX3_watches_100
  · refine gc_if_ge hG (tgt := 24) dX3_watches_11 (by decide) ?_ ?_
    · refine gc_aload_n hG (v := .ref a4) (refV_a _) dX3_watches_14 rfl rfl ?_
      refine gc_gd (fun hk => ?_)
      refine gc_getN hC (ci := 5) (j := 1) (v := .int (cI t 44 a4)) hk dX3_watches_15 rfl (by decide) in_X7 q381 (fun _ h => h) rfl ?_
      refine gc_letv (fun x35 h_ => ?_)
      refine gc_bipush hG (nI 99) dX3_watches_18 (by decide) ?_
      refine gc_iadd hG dX3_watches_20 ?_
      refine gc_goto hG (tgt := 28) dX3_watches_21 (by decide) ?_
      refine gc_sub [0, 1] rfl ?_
      exact hj8 (x35 + (nI 99)) t
    · refine gc_aload_n hG (v := .ref a4) (refV_a _) dX3_watches_24 rfl rfl ?_
      refine gc_gd (fun hk => ?_)
      refine gc_getN hC (ci := 5) (j := 1) (v := .int (cI t 44 a4)) hk dX3_watches_25 rfl (by decide) in_X7 q381 (fun _ h => h) rfl ?_
      refine gc_letv (fun x36 h_ => ?_)
      refine gc_sub [0, 1] rfl ?_
      exact hj8 x36 t
def fD_deals (v0 : Nat) (v1 : Option Nat) (v2 : Option Nat) (t : cS) : Option ((Unit ⊕ Nat) × cS) :=
  rv v1 (fun a1 =>
  rv v2 (fun a2 =>
  if cK t v0 = 36 then zV (fX3_lambda_of_0 (some a1) (some a2) t) else
  rv (cR t 901 v0) (fun a0 =>
  gd (cK t a0 = 4) (
  if cK t v0 = 37 then zV (fX3_passes a0 (some a1) (some a2) t) else
  if cK t v0 = 38 then zV (fX3_echoes a0 (some a1) (some a2) t) else
  if cK t v0 = 39 then fX3_holds a0 (some a1) (some a2) t else
  if cK t v0 = 40 then fX3_switches a0 (some a1) (some a2) t else
  if cK t v0 = 41 then fX3_risks a0 (some a1) (some a2) t else
  if cK t v0 = 42 then zV (fX3_delays a0 (some a1) (some a2) t) else
  if cK t v0 = 43 then zV (fX3_fans a0 (some a1) (some a2) t) else
  if cK t v0 = 44 then zV (fX3_watches a0 (some a1) (some a2) t) else
  gd (cK t v0 = 45) (zV (fX3_lambda_of_1 a0 (some a1) (some a2) t))))))
theorem mfD_deals (v0 : Nat) (v1 : Option Nat) (v2 : Option Nat) (t : cS) : MO t (fD_deals v0 v1 v2 t) := by
  unfold fD_deals
  refine mo_rv (fun a1 => ?_)
  refine mo_rv (fun a2 => ?_)
  refine mo_ite (mo_zV (by apply mfX3_lambda_of_0)) ?_
  refine mo_rv (fun a0 => ?_)
  refine mo_gd ?_
  refine mo_ite (mo_zV (by apply mfX3_passes)) ?_
  refine mo_ite (mo_zV (by apply mfX3_echoes)) ?_
  refine mo_ite (by apply mfX3_holds) ?_
  refine mo_ite (by apply mfX3_switches) ?_
  refine mo_ite (by apply mfX3_risks) ?_
  refine mo_ite (mo_zV (by apply mfX3_delays)) ?_
  refine mo_ite (mo_zV (by apply mfX3_fans)) ?_
  refine mo_ite (mo_zV (by apply mfX3_watches)) ?_
  exact mo_gd (mo_zV (by apply mfX3_lambda_of_1))
set_option maxHeartbeats 4000000 in
theorem gD_deals {α : Type} {X : gCx} {Y : cY} {M : cMd α} {t : cS} {pc d index count : Nat} {lv : List (Nat × Value)} {rest : List Value} {own : String} {cc : ByteArray} {K : (Unit ⊕ Nat) → cS → Option (α × cS)} {v0 : Nat} {v1 : Option Nat} {v2 : Option Nat} (hC : cOk X Y own cc d) (hnL : gLoc X = M.1) (hl : (gLn X).stackTraces = false) (hY : ∀ q, q < Y.2.2.2.2.size → ¬ Y.2.2.2.1 q) (hdg : decode cc pc = .ok (.invokeinterface index count, 5)) (w1 : Cond.methodLink own index ⟨"ActorTrees$Behaviour", "deals", "(LActorTrees$Actor;LActorTrees$Count;)V"⟩ ∈ lw_all) (hd : 33 + 1 ≤ d) (hs8 : (rest.map fun v => v.category).sum ≤ 8) (kn : ∀ (r : (Unit ⊕ Nat)) (s1 : cS) (v : Option Value), rVx r = .inl v → GC X Y M (K r s1) s1 (pc + 5) lv (v.toList ++ rest)) (kx : ∀ (r : (Unit ⊕ Nat)) (s1 : cS) (x : Nat), rVx r = .inr x → GX X Y M (K r s1) s1 pc lv x) : GC X Y M (ob (fD_deals v0 v1 v2 t) K) t pc lv (vr v2 :: vr v1 :: .ref v0 :: rest) := by
  rw [fD_deals]
  refine gc_obrv (fun a1 h_ => ?_)
  subst h_
  refine gc_obrv (fun a2 h_ => ?_)
  subst h_
  refine gc_obif (fun hk => gc_lamD (x := ⟨"ActorTrees$Behaviour", "deals", "(LActorTrees$Actor;LActorTrees$Count;)V"⟩) (y := yX3_lambda_of_0) (d' := 1) hC hnL (cFn_zV (wX3_lambda_of_0 (gLn X) Y hl hY (some a1) (some a2) t)) (by decide) hk (by decide) (List.mem_of_getElem? (i := 6) rfl) (by decide +kernel) ⟨rfl, rfl, by decide +kernel⟩ (by unfold mdC; decide +kernel) (by unfold mdT; decide +kernel) ⟨⟨rfl, rfl, by decide +kernel⟩, rfl⟩ (by decide +kernel) q765 q77 q766 ⟨⟨by decide +kernel, by decide +kernel⟩, by decide +kernel⟩ hdg w1 (by decide +kernel) (by omega) hs8 kn kx) (fun _ => ?_)
  refine gc_obrv (fun a0 h9 => ?_)
  refine gc_obgd (fun hka => ?_)
  refine gc_obif (fun hk => gc_lamE (x := ⟨"ActorTrees$Behaviour", "deals", "(LActorTrees$Actor;LActorTrees$Count;)V"⟩) (y := yX3_passes) (d' := 4) (cI := 3) (ds := "LActorTrees$World$Deeds;") hC hnL (cFn_zV (wX3_passes (gLn X) Y hl hY a0 (some a1) (some a2) t)) (by decide) hk (by decide) rfl h9 hka rfl (List.mem_of_getElem? (i := 7) rfl) (by decide +kernel) ⟨rfl, rfl, by decide +kernel⟩ (by unfold mdC; decide +kernel) (by unfold mdT; decide +kernel) (by unfold mdF; decide +kernel) ⟨⟨rfl, rfl, by decide +kernel⟩, rfl⟩ (by decide +kernel) q1709 q768 qs9 q77 q769 ⟨⟨by decide +kernel, by decide +kernel⟩, by decide +kernel⟩ hdg w1 (by decide +kernel) (by omega) hs8 kn kx) (fun _ => ?_)
  refine gc_obif (fun hk => gc_lamE (x := ⟨"ActorTrees$Behaviour", "deals", "(LActorTrees$Actor;LActorTrees$Count;)V"⟩) (y := yX3_echoes) (d' := 4) (cI := 3) (ds := "LActorTrees$World$Deeds;") hC hnL (cFn_zV (wX3_echoes (gLn X) Y hl hY a0 (some a1) (some a2) t)) (by decide) hk (by decide) rfl h9 hka rfl (List.mem_of_getElem? (i := 8) rfl) (by decide +kernel) ⟨rfl, rfl, by decide +kernel⟩ (by unfold mdC; decide +kernel) (by unfold mdT; decide +kernel) (by unfold mdF; decide +kernel) ⟨⟨rfl, rfl, by decide +kernel⟩, rfl⟩ (by decide +kernel) q1709 q774 qs10 q77 q775 ⟨⟨by decide +kernel, by decide +kernel⟩, by decide +kernel⟩ hdg w1 (by decide +kernel) (by omega) hs8 kn kx) (fun _ => ?_)
  refine gc_obif (fun hk => gc_lamE (x := ⟨"ActorTrees$Behaviour", "deals", "(LActorTrees$Actor;LActorTrees$Count;)V"⟩) (y := yX3_holds) (d' := 6) (cI := 3) (ds := "LActorTrees$World$Deeds;") hC hnL (wX3_holds (gLn X) Y hl hY a0 (some a1) (some a2) t) (by decide) hk (by decide) rfl h9 hka rfl (List.mem_of_getElem? (i := 9) rfl) (by decide +kernel) ⟨rfl, rfl, by decide +kernel⟩ (by unfold mdC; decide +kernel) (by unfold mdT; decide +kernel) (by unfold mdF; decide +kernel) ⟨⟨rfl, rfl, by decide +kernel⟩, rfl⟩ (by decide +kernel) q1709 q781 qs12 q77 q782 ⟨⟨by decide +kernel, by decide +kernel⟩, by decide +kernel⟩ hdg w1 (by decide +kernel) (by omega) hs8 kn kx) (fun _ => ?_)
  refine gc_obif (fun hk => gc_lamE (x := ⟨"ActorTrees$Behaviour", "deals", "(LActorTrees$Actor;LActorTrees$Count;)V"⟩) (y := yX3_switches) (d' := 6) (cI := 3) (ds := "LActorTrees$World$Deeds;") hC hnL (wX3_switches (gLn X) Y hl hY a0 (some a1) (some a2) t) (by decide) hk (by decide) rfl h9 hka rfl (List.mem_of_getElem? (i := 10) rfl) (by decide +kernel) ⟨rfl, rfl, by decide +kernel⟩ (by unfold mdC; decide +kernel) (by unfold mdT; decide +kernel) (by unfold mdF; decide +kernel) ⟨⟨rfl, rfl, by decide +kernel⟩, rfl⟩ (by decide +kernel) q1709 q826 qs13 q77 q827 ⟨⟨by decide +kernel, by decide +kernel⟩, by decide +kernel⟩ hdg w1 (by decide +kernel) (by omega) hs8 kn kx) (fun _ => ?_)
  refine gc_obif (fun hk => gc_lamE (x := ⟨"ActorTrees$Behaviour", "deals", "(LActorTrees$Actor;LActorTrees$Count;)V"⟩) (y := yX3_risks) (d' := 5) (cI := 3) (ds := "LActorTrees$World$Deeds;") hC hnL (wX3_risks (gLn X) Y hl hY a0 (some a1) (some a2) t) (by decide) hk (by decide) rfl h9 hka rfl (List.mem_of_getElem? (i := 11) rfl) (by decide +kernel) ⟨rfl, rfl, by decide +kernel⟩ (by unfold mdC; decide +kernel) (by unfold mdT; decide +kernel) (by unfold mdF; decide +kernel) ⟨⟨rfl, rfl, by decide +kernel⟩, rfl⟩ (by decide +kernel) q1709 q884 qs14 q77 q885 ⟨⟨by decide +kernel, by decide +kernel⟩, by decide +kernel⟩ hdg w1 (by decide +kernel) (by omega) hs8 kn kx) (fun _ => ?_)
  refine gc_obif (fun hk => gc_lamE (x := ⟨"ActorTrees$Behaviour", "deals", "(LActorTrees$Actor;LActorTrees$Count;)V"⟩) (y := yX3_delays) (d' := 6) (cI := 3) (ds := "LActorTrees$World$Deeds;") hC hnL (cFn_zV (wX3_delays (gLn X) Y hl hY a0 (some a1) (some a2) t)) (by decide) hk (by decide) rfl h9 hka rfl (List.mem_of_getElem? (i := 12) rfl) (by decide +kernel) ⟨rfl, rfl, by decide +kernel⟩ (by unfold mdC; decide +kernel) (by unfold mdT; decide +kernel) (by unfold mdF; decide +kernel) ⟨⟨rfl, rfl, by decide +kernel⟩, rfl⟩ (by decide +kernel) q1709 q889 qs15 q77 q890 ⟨⟨by decide +kernel, by decide +kernel⟩, by decide +kernel⟩ hdg w1 (by decide +kernel) (by omega) hs8 kn kx) (fun _ => ?_)
  refine gc_obif (fun hk => gc_lamE (x := ⟨"ActorTrees$Behaviour", "deals", "(LActorTrees$Actor;LActorTrees$Count;)V"⟩) (y := yX3_fans) (d' := 4) (cI := 3) (ds := "LActorTrees$World$Deeds;") hC hnL (cFn_zV (wX3_fans (gLn X) Y hl hY a0 (some a1) (some a2) t)) (by decide) hk (by decide) rfl h9 hka rfl (List.mem_of_getElem? (i := 13) rfl) (by decide +kernel) ⟨rfl, rfl, by decide +kernel⟩ (by unfold mdC; decide +kernel) (by unfold mdT; decide +kernel) (by unfold mdF; decide +kernel) ⟨⟨rfl, rfl, by decide +kernel⟩, rfl⟩ (by decide +kernel) q1709 q925 qs16 q77 q926 ⟨⟨by decide +kernel, by decide +kernel⟩, by decide +kernel⟩ hdg w1 (by decide +kernel) (by omega) hs8 kn kx) (fun _ => ?_)
  refine gc_obif (fun hk => gc_lamE (x := ⟨"ActorTrees$Behaviour", "deals", "(LActorTrees$Actor;LActorTrees$Count;)V"⟩) (y := yX3_watches) (d' := 4) (cI := 3) (ds := "LActorTrees$World$Deeds;") hC hnL (cFn_zV (wX3_watches (gLn X) Y hl hY a0 (some a1) (some a2) t)) (by decide) hk (by decide) rfl h9 hka rfl (List.mem_of_getElem? (i := 14) rfl) (by decide +kernel) ⟨rfl, rfl, by decide +kernel⟩ (by unfold mdC; decide +kernel) (by unfold mdT; decide +kernel) (by unfold mdF; decide +kernel) ⟨⟨rfl, rfl, by decide +kernel⟩, rfl⟩ (by decide +kernel) q1709 q928 qs17 q77 q929 ⟨⟨by decide +kernel, by decide +kernel⟩, by decide +kernel⟩ hdg w1 (by decide +kernel) (by omega) hs8 kn kx) (fun _ => ?_)
  exact gc_obgd (fun hk => gc_lamE (x := ⟨"ActorTrees$Behaviour", "deals", "(LActorTrees$Actor;LActorTrees$Count;)V"⟩) (y := yX3_lambda_of_1) (d' := 32) (cI := 3) (ds := "LActorTrees$World$Deeds;") hC hnL (cFn_zV (wX3_lambda_of_1 (gLn X) Y hl hY a0 (some a1) (some a2) t)) (by decide) hk (by decide) rfl h9 hka rfl (List.mem_of_getElem? (i := 15) rfl) (by decide +kernel) ⟨rfl, rfl, by decide +kernel⟩ (by unfold mdC; decide +kernel) (by unfold mdT; decide +kernel) (by unfold mdF; decide +kernel) ⟨⟨rfl, rfl, by decide +kernel⟩, rfl⟩ (by decide +kernel) q1709 q958 qs18 q77 q959 ⟨⟨by decide +kernel, by decide +kernel⟩, by decide +kernel⟩ hdg w1 (by decide +kernel) (by omega) hs8 kn kx)
def fX13_why (v0 : Nat) (t : cS) : Option (Int32 × cS) :=
  (some ((nI 3), t))
theorem mfX13_why (v0 : Nat) (t : cS) : MO t (fX13_why v0 t) := by
  unfold fX13_why
  exact mo_some
set_option maxHeartbeats 4000000 in
theorem wX13_why (l : Launch) (Y : cY) (hl : l.stackTraces = false) (hY : ∀ q, q < Y.2.2.2.2.size → ¬ Y.2.2.2.1 q) (v0 : Nat) (t : cS) : cFn l Y yX13_why (ws_ yX13_why cX13_why 1 (some .int)) 1 [.ref v0] t (fX13_why v0 t) rI := by
  refine cmet (av := [.ref v0]) (mfX13_why v0 t) hl hY (by decide +kernel) (lg_le (List.forall_mem_cons.mpr ⟨rfl, fun _ h => absurd h List.not_mem_nil⟩) (Nat.le_of_ble_eq_true rfl)) (lv_args_cat (List.forall_mem_cons.mpr ⟨rfl, fun _ h => absurd h List.not_mem_nil⟩)) ?_
  intro X ad0 hln hC hnL hrt hnm hT hmd
  subst hln
  have hG := hC.1
  rw [lv_args_s (List.forall_mem_cons.mpr ⟨rfl, fun _ h => absurd h List.not_mem_nil⟩)]
  show GC X Y (cM Y X 1 t ad0 rI) _ t 0 [(0, .ref v0)] []
  unfold fX13_why
  refine gc_iconst hG (nI 3) dX13_why_0 (by decide) ?_
  exact gc_iret hC hrt rfl rfl dX13_why_1
def fX14_why (v0 : Nat) (t : cS) : Option (Int32 × cS) :=
  (some ((nI 4), t))
theorem mfX14_why (v0 : Nat) (t : cS) : MO t (fX14_why v0 t) := by
  unfold fX14_why
  exact mo_some
set_option maxHeartbeats 4000000 in
theorem wX14_why (l : Launch) (Y : cY) (hl : l.stackTraces = false) (hY : ∀ q, q < Y.2.2.2.2.size → ¬ Y.2.2.2.1 q) (v0 : Nat) (t : cS) : cFn l Y yX14_why (ws_ yX14_why cX14_why 1 (some .int)) 1 [.ref v0] t (fX14_why v0 t) rI := by
  refine cmet (av := [.ref v0]) (mfX14_why v0 t) hl hY (by decide +kernel) (lg_le (List.forall_mem_cons.mpr ⟨rfl, fun _ h => absurd h List.not_mem_nil⟩) (Nat.le_of_ble_eq_true rfl)) (lv_args_cat (List.forall_mem_cons.mpr ⟨rfl, fun _ h => absurd h List.not_mem_nil⟩)) ?_
  intro X ad0 hln hC hnL hrt hnm hT hmd
  subst hln
  have hG := hC.1
  rw [lv_args_s (List.forall_mem_cons.mpr ⟨rfl, fun _ h => absurd h List.not_mem_nil⟩)]
  show GC X Y (cM Y X 1 t ad0 rI) _ t 0 [(0, .ref v0)] []
  unfold fX14_why
  refine gc_iconst hG (nI 4) dX14_why_0 (by decide) ?_
  exact gc_iret hC hrt rfl rfl dX14_why_1
