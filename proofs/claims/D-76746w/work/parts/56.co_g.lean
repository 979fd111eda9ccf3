/-! the component: walks, by program (gen/cgen.py) -/
def fX1_runs_L9 (v0 : Nat) (v1 : Int32) (kx : Int32 → Int32 → cS → Option (Int32 × cS)) : Nat → Int32 → Int32 → cS → Option (Int32 × cS)
  | 0, _, _, _ => none
  | k + 1, v2, v3, t =>
    if v3 < 0 then
      gd (cK t v0 = 2) (
      ob (fX1_steps v0 t) (fun r3 s4 =>
      letv (v2 + (nI 1)) (fun y5 =>
      gd (cK s4 v0 = 2) (
      ob (fX1_ends v0 y5 v1 s4) (fun r6 s7 =>
      fX1_runs_L9 v0 v1 kx k y5 r6 s7
      )
      )
      )
      )
      )
    else
      kx v2 v3 t
theorem mfX1_runs_L9 (v0 : Nat) (v1 : Int32) (kx : Int32 → Int32 → cS → Option (Int32 × cS)) (hkx : ∀ (v2 : Int32) (v3 : Int32) (t : cS), MO t (kx v2 v3 t)) : ∀ (k : Nat) (v2 : Int32) (v3 : Int32) (t : cS), MO t (fX1_runs_L9 v0 v1 kx k v2 v3 t) := by
  intro k
  induction k with
  | zero => intro v2 v3 t; exact mo_none
  | succ k ih =>
    intro v2 v3 t
    rw [fX1_runs_L9]
    refine mo_ite ?_ ?_
    · refine mo_gd ?_
      refine mo_ob (by apply mfX1_steps) (fun _ _ => ?_)
      refine mo_letv (fun _ => ?_)
      refine mo_gd ?_
      refine mo_ob (by apply mfX1_ends) (fun _ _ => ?_)
      exact ih _ _ _
    · exact hkx _ _ _
set_option maxHeartbeats 4000000 in
theorem gfX1_runs_L9 {X : gCx} {Y : cY} {s0 : cS} {ad0 : Nat → Nat} (hC : cOk X Y RX1 cX1_runs 38) (hl : (gLn X).stackTraces = false) (hY : ∀ q, q < Y.2.2.2.2.size → ¬ Y.2.2.2.1 q) (hnL : gLoc X = 4) (hrt : gRet X = (some .int)) (hnm : X.2.2.2.2.2.2.2.2.1.name = "runs") (hT : gTab X = []) (hmd : (gSt X).methodNamed? yX1_runs = some (gMe X)) (v0 : Nat) (v1 : Int32) (kx : Int32 → Int32 → cS → Option (Int32 × cS)) (hkx : ∀ (v2 : Int32) (v3 : Int32) (t : cS), GC X Y (cM Y X 4 s0 ad0 rI) (kx v2 v3 t) t 31 [(0, .ref v0), (2, .int v2), (3, .int v3)] []) : ∀ (k : Nat) (v2 : Int32) (v3 : Int32) (t : cS), GC X Y (cM Y X 4 s0 ad0 rI) (fX1_runs_L9 v0 v1 kx k v2 v3 t) t 9 [(0, .ref v0), (1, .int v1), (2, .int v2), (3, .int v3)] [] := by
  have hG := hC.1
  intro k
  induction k with
  | zero => intro v2 v3 t; exact gc_none
  | succ k ih =>
    intro v2 v3 t
    rw [fX1_runs_L9]
    refine gc_iload_n hG dX1_runs_9 rfl rfl ?_
    refine gc_if_ge hG (tgt := 31) dX1_runs_10 (by decide) ?_ ?_
    · refine gc_aload_n hG (v := .ref v0) (refV_a _) dX1_runs_13 rfl rfl ?_
      refine gc_gd (fun hk => ?_)
      refine gc_callV (f := fX1_steps v0 t) (As := []) (rest := []) (n := 0) (d' := 37) (b := v0) hC hnL (wX1_steps (gLn X) Y hl hY v0 t) hk (ci := 1) rfl dX1_runs_14 q710 q711 q712 q75 q713 ⟨by decide +kernel, by decide +kernel⟩ rfl (by decide) (by decide) (Nat.le_of_ble_eq_true rfl) (kn_I (fun r3 s4 => ?_)) kx_I
      refine gc_pop hG dX1_runs_17 rfl ?_
      refine gc_letiinc hG (c := (nI 1)) (lv' := fun y5 => [(0, .ref v0), (1, .int v1), (2, .int y5), (3, .int v3)]) dX1_runs_18 rfl (by decide) (Nat.le_of_ble_eq_true rfl) (fun _ => rfl) (fun y5 => ?_)
      refine gc_aload_n hG (v := .ref v0) (refV_a _) dX1_runs_21 rfl rfl ?_
      refine gc_iload_n hG dX1_runs_22 rfl rfl ?_
      refine gc_iload_n hG dX1_runs_23 rfl rfl ?_
      refine gc_gd (fun hk => ?_)
      refine gc_callV (f := fX1_ends v0 y5 v1 s4) (As := [.int y5, .int v1]) (rest := []) (n := 2) (d' := 4) (b := v0) hC hnL (wX1_ends (gLn X) Y hl hY v0 y5 v1 s4) hk (ci := 1) rfl dX1_runs_24 q694 q696 qs5 q75 q697 ⟨by decide +kernel, by decide +kernel⟩ rfl (by decide) (by decide) (Nat.le_of_ble_eq_true rfl) (kn_I (fun r6 s7 => ?_)) kx_I
      refine gc_istore_n hG dX1_runs_27 rfl (Nat.le_of_ble_eq_true rfl) (lv' := [(0, _), (1, _), (2, _), (3, _)]) rfl ?_
      refine gc_goto hG (tgt := 9) dX1_runs_28 (by decide) ?_
      exact ih y5 r6 s7
    · refine gc_sub [0, 2, 3] rfl ?_
      exact hkx v2 v3 t
def fX1_runs (v0 : Nat) (v1 : Int32) (t : cS) : Option (Int32 × cS) :=
  gd (cK t v0 = 2) (
  ob (fX1_ends v0 (nI 0) v1 t) (fun r1 s2 =>
  fX1_runs_L9 v0 v1 (fun (v2_8 : Int32) (v3_9 : Int32) (t10 : cS) =>
    gd (cK t10 v0 = 2) (
    letv (sI t10 19 v0 v3_9) (fun s11 =>
    (some (v2_8, s11))
    )
    )
    ) FU (nI 0) r1 s2
  )
  )
theorem mfX1_runs (v0 : Nat) (v1 : Int32) (t : cS) : MO t (fX1_runs v0 v1 t) := by
  unfold fX1_runs
  refine mo_gd ?_
  refine mo_ob (by apply mfX1_ends) (fun _ _ => ?_)
  refine mfX1_runs_L9 _ _ _ (fun _ _ _ => ?_) _ _ _ _
  refine mo_gd ?_
  refine mo_letS cMo_sI (fun _ => ?_)
  exact mo_some
set_option maxHeartbeats 4000000 in
theorem wX1_runs (l : Launch) (Y : cY) (hl : l.stackTraces = false) (hY : ∀ q, q < Y.2.2.2.2.size → ¬ Y.2.2.2.1 q) (v0 : Nat) (v1 : Int32) (t : cS) : cFn l Y yX1_runs (ws_ yX1_runs cX1_runs 4 (some .int)) 38 [.ref v0, .int v1] t (fX1_runs v0 v1 t) rI := by
  refine cmet (av := [.ref v0, .int v1]) (mfX1_runs v0 v1 t) hl hY (by decide +kernel) (lg_le (List.forall_mem_cons.mpr ⟨rfl, List.forall_mem_cons.mpr ⟨rfl, fun _ h => absurd h List.not_mem_nil⟩⟩) (Nat.le_of_ble_eq_true rfl)) (lv_args_cat (List.forall_mem_cons.mpr ⟨rfl, List.forall_mem_cons.mpr ⟨rfl, fun _ h => absurd h List.not_mem_nil⟩⟩)) ?_
  intro X ad0 hln hC hnL hrt hnm hT hmd
  subst hln
  have hG := hC.1
  rw [lv_args_s (List.forall_mem_cons.mpr ⟨rfl, List.forall_mem_cons.mpr ⟨rfl, fun _ h => absurd h List.not_mem_nil⟩⟩)]
  show GC X Y (cM Y X 4 t ad0 rI) _ t 0 [(0, .ref v0), (1, .int v1)] []
  unfold fX1_runs
  refine gc_iconst hG (nI 0) dX1_runs_0 (by decide) ?_
  refine gc_istore_n hG dX1_runs_1 rfl (Nat.le_of_ble_eq_true rfl) (lv' := [(0, _), (1, _), (2, _)]) rfl ?_
  refine gc_aload_n hG (v := .ref v0) (refV_a _) dX1_runs_2 rfl rfl ?_
  refine gc_iload_n hG dX1_runs_3 rfl rfl ?_
  refine gc_iload_n hG dX1_runs_4 rfl rfl ?_
  refine gc_gd (fun hk => ?_)
  refine gc_callV (f := fX1_ends v0 (nI 0) v1 t) (As := [.int (nI 0), .int v1]) (rest := []) (n := 2) (d' := 4) (b := v0) hC hnL (wX1_ends (gLn X) Y hl hY v0 (nI 0) v1 t) hk (ci := 1) rfl dX1_runs_5 q694 q696 qs5 q75 q697 ⟨by decide +kernel, by decide +kernel⟩ rfl (by decide) (by decide) (Nat.le_of_ble_eq_true rfl) (kn_I (fun r1 s2 => ?_)) kx_I
  refine gc_istore_n hG dX1_runs_8 rfl (Nat.le_of_ble_eq_true rfl) (lv' := [(0, _), (1, _), (2, _), (3, _)]) rfl ?_
  refine gfX1_runs_L9 (s0 := t) (ad0 := ad0) hC hl hY hnL hrt hnm hT hmd v0 v1 _ (fun v2_8 v3_9 t10 => ?_) FU (nI 0) r1 s2
  refine gc_aload_n hG (v := .ref v0) (refV_a _) dX1_runs_31 rfl rfl ?_
  refine gc_iload_n hG dX1_runs_32 rfl rfl ?_
  refine gc_gd (fun hk => ?_)
  have pt := pt_I (s := t10) (f := 19) (a := v0) (x := v3_9) rfl
  refine gc_put hC tyX1 tyX1_ok nmX1 hk dX1_runs_33 (ci := 1) (j := 13) (Or.inl (by decide)) rfl (by decide) in_X1 q188 (fun _ h => h) rfl (tyX1_ok 13 (by decide)) (fun _ => rfl) (fun _ => rfl) pt.1.1 pt.1.2.1 pt.1.2.2.1 pt.1.2.2.2 pt.2.1 pt.2.2.1 pt.2.2.2 ?_
  refine gc_letS (fun s11 => ?_)
  refine gc_iload_n hG dX1_runs_36 rfl rfl ?_
  exact gc_iret hC hrt rfl rfl dX1_runs_37
def fX0_run (v0 : Nat) (v1 : Int32) (t : cS) : Option (Int32 × cS) :=
  ob (fX0_within v1 (nI 1) (nI 200) t) (fun r1 s2 =>
  if r1 = 0 then
    (some ((-1 : Int32), s2))
  else
    gd (cK s2 v0 = 1) (
    letv (cR s2 1 v0) (fun x3 =>
    rv x3 (fun a4 =>
    gd (cK s2 a4 = 2) (
    ob (fX1_runs a4 v1 s2) (fun r5 s6 =>
    (some (r5, s6))
    )
    )
    )
    )
    )
  )
theorem mfX0_run (v0 : Nat) (v1 : Int32) (t : cS) : MO t (fX0_run v0 v1 t) := by
  unfold fX0_run
  refine mo_ob (by apply mfX0_within) (fun _ _ => ?_)
  refine mo_ite ?_ ?_
  · exact mo_some
  · refine mo_gd ?_
    refine mo_letv (fun _ => ?_)
    refine mo_rv (fun _ => ?_)
    refine mo_gd ?_
    refine mo_ob (by apply mfX1_runs) (fun _ _ => ?_)
    exact mo_some
set_option maxHeartbeats 4000000 in
theorem wX0_run (l : Launch) (Y : cY) (hl : l.stackTraces = false) (hY : ∀ q, q < Y.2.2.2.2.size → ¬ Y.2.2.2.1 q) (v0 : Nat) (v1 : Int32) (t : cS) : cFn l Y yX0_run (ws_ yX0_run cX0_run 2 (some .int)) 39 [.ref v0, .int v1] t (fX0_run v0 v1 t) rI := by
  refine cmet (av := [.ref v0, .int v1]) (mfX0_run v0 v1 t) hl hY (by decide +kernel) (lg_le (List.forall_mem_cons.mpr ⟨rfl, List.forall_mem_cons.mpr ⟨rfl, fun _ h => absurd h List.not_mem_nil⟩⟩) (Nat.le_of_ble_eq_true rfl)) (lv_args_cat (List.forall_mem_cons.mpr ⟨rfl, List.forall_mem_cons.mpr ⟨rfl, fun _ h => absurd h List.not_mem_nil⟩⟩)) ?_
  intro X ad0 hln hC hnL hrt hnm hT hmd
  subst hln
  have hG := hC.1
  rw [lv_args_s (List.forall_mem_cons.mpr ⟨rfl, List.forall_mem_cons.mpr ⟨rfl, fun _ h => absurd h List.not_mem_nil⟩⟩)]
  show GC X Y (cM Y X 2 t ad0 rI) _ t 0 [(0, .ref v0), (1, .int v1)] []
  unfold fX0_run
  refine gc_iload_n hG dX0_run_0 rfl rfl ?_
  refine gc_iconst hG (nI 1) dX0_run_1 (by decide) ?_
  refine gc_sipush hG (nI 200) dX0_run_2 (by decide) ?_
  refine gc_callS (f := fX0_within v1 (nI 1) (nI 200) t) (As := [.int v1, .int (nI 1), .int (nI 200)]) (rest := []) (n := 3) (d' := 1) hC hnL (wX0_within (gLn X) Y hl hY v1 (nI 1) (nI 200) t) dX0_run_5 q370 q250 q74 q251 ⟨by decide +kernel, by decide +kernel⟩ rfl (by decide) (by decide) (Nat.le_of_ble_eq_true rfl) (kn_I (fun r1 s2 => ?_)) kx_I
  refine gc_if_eq hG (tgt := 22) dX0_run_8 (by decide) ?_ ?_
  · refine gc_iconst hG (-1 : Int32) dX0_run_22 (by decide) ?_
    exact gc_iret hC hrt rfl rfl dX0_run_23
  · refine gc_aload_n hG (v := .ref v0) (refV_a _) dX0_run_11 rfl rfl ?_
    refine gc_gd (fun hk => ?_)
    refine gc_get hC (ci := 0) (j := 0) (v := vr (cR s2 1 v0)) hk dX0_run_12 rfl (by decide) in_X0 q224 (fun _ h => h) rfl ?_
    refine gc_letr (fun x3 h_ => ?_)
    refine gc_iload_n hG dX0_run_15 rfl rfl ?_
    refine gc_rv (fun a4 h_ => ?_)
    subst h_
    refine gc_gd (fun hk => ?_)
    refine gc_callV (f := fX1_runs a4 v1 s2) (As := [.int v1]) (rest := []) (n := 1) (d' := 38) (b := a4) hC hnL (wX1_runs (gLn X) Y hl hY a4 v1 s2) hk (ci := 1) rfl dX0_run_16 q690 q691 q692 q75 q693 ⟨by decide +kernel, by decide +kernel⟩ rfl (by decide) (by decide) (Nat.le_of_ble_eq_true rfl) (kn_I (fun r5 s6 => ?_)) kx_I
    refine gc_goto hG (tgt := 23) dX0_run_19 (by decide) ?_
    exact gc_iret hC hrt rfl rfl dX0_run_23
def fX0_ended (v0 : Nat) (t : cS) : Option (Int32 × cS) :=
  gd (cK t v0 = 1) (
  letv (cR t 1 v0) (fun x1 =>
  rv x1 (fun a2 =>
  gd (cK t a2 = 2) (
  letv (cI t 19 a2) (fun x3 =>
  (some (x3, t))
  )
  )
  )
  )
  )
theorem mfX0_ended (v0 : Nat) (t : cS) : MO t (fX0_ended v0 t) := by
  unfold fX0_ended
  refine mo_gd ?_
  refine mo_letv (fun _ => ?_)
  refine mo_rv (fun _ => ?_)
  refine mo_gd ?_
  refine mo_letv (fun _ => ?_)
  exact mo_some
set_option maxHeartbeats 4000000 in
theorem wX0_ended (l : Launch) (Y : cY) (hl : l.stackTraces = false) (hY : ∀ q, q < Y.2.2.2.2.size → ¬ Y.2.2.2.1 q) (v0 : Nat) (t : cS) : cFn l Y yX0_ended (ws_ yX0_ended cX0_ended 1 (some .int)) 1 [.ref v0] t (fX0_ended v0 t) rI := by
  refine cmet (av := [.ref v0]) (mfX0_ended v0 t) hl hY (by decide +kernel) (lg_le (List.forall_mem_cons.mpr ⟨rfl, fun _ h => absurd h List.not_mem_nil⟩) (Nat.le_of_ble_eq_true rfl)) (lv_args_cat (List.forall_mem_cons.mpr ⟨rfl, fun _ h => absurd h List.not_mem_nil⟩)) ?_
  intro X ad0 hln hC hnL hrt hnm hT hmd
  subst hln
  have hG := hC.1
  rw [lv_args_s (List.forall_mem_cons.mpr ⟨rfl, fun _ h => absurd h List.not_mem_nil⟩)]
  show GC X Y (cM Y X 1 t ad0 rI) _ t 0 [(0, .ref v0)] []
  unfold fX0_ended
  refine gc_aload_n hG (v := .ref v0) (refV_a _) dX0_ended_0 rfl rfl ?_
  refine gc_gd (fun hk => ?_)
  refine gc_get hC (ci := 0) (j := 0) (v := vr (cR t 1 v0)) hk dX0_ended_1 rfl (by decide) in_X0 q224 (fun _ h => h) rfl ?_
  refine gc_letr (fun x1 h_ => ?_)
  refine gc_rv (fun a2 h_ => ?_)
  subst h_
  refine gc_gd (fun hk => ?_)
  refine gc_getN hC (ci := 1) (j := 13) (v := .int (cI t 19 a2)) hk dX0_ended_4 rfl (by decide) in_X1 q189 (fun _ h => h) rfl ?_
  refine gc_letv (fun x3 h_ => ?_)
  exact gc_iret hC hrt rfl rfl dX0_ended_7
def fX0_logs (v0 : Nat) (t : cS) : Option (Int32 × cS) :=
  gd (cK t v0 = 1) (
  letv (cR t 1 v0) (fun x1 =>
  rv x1 (fun a2 =>
  gd (cK t a2 = 2) (
  letv (cI t 15 a2) (fun x3 =>
  (some (((if x3 < (nI 30) then x3 else (nI 30))), t))
  )
  )
  )
  )
  )
theorem mfX0_logs (v0 : Nat) (t : cS) : MO t (fX0_logs v0 t) := by
  unfold fX0_logs
  refine mo_gd ?_
  refine mo_letv (fun _ => ?_)
  refine mo_rv (fun _ => ?_)
  refine mo_gd ?_
  refine mo_letv (fun _ => ?_)
  exact mo_some
set_option maxHeartbeats 4000000 in
theorem wX0_logs (l : Launch) (Y : cY) (hl : l.stackTraces = false) (hY : ∀ q, q < Y.2.2.2.2.size → ¬ Y.2.2.2.1 q) (v0 : Nat) (t : cS) : cFn l Y yX0_logs (ws_ yX0_logs cX0_logs 1 (some .int)) 1 [.ref v0] t (fX0_logs v0 t) rI := by
  refine cmet (av := [.ref v0]) (mfX0_logs v0 t) hl hY (by decide +kernel) (lg_le (List.forall_mem_cons.mpr ⟨rfl, fun _ h => absurd h List.not_mem_nil⟩) (Nat.le_of_ble_eq_true rfl)) (lv_args_cat (List.forall_mem_cons.mpr ⟨rfl, fun _ h => absurd h List.not_mem_nil⟩)) ?_
  intro X ad0 hln hC hnL hrt hnm hT hmd
  subst hln
  have hG := hC.1
  rw [lv_args_s (List.forall_mem_cons.mpr ⟨rfl, fun _ h => absurd h List.not_mem_nil⟩)]
  show GC X Y (cM Y X 1 t ad0 rI) _ t 0 [(0, .ref v0)] []
  unfold fX0_logs
  refine gc_bipush hG (nI 30) dX0_logs_0 (by decide) ?_
  refine gc_aload_n hG (v := .ref v0) (refV_a _) dX0_logs_2 rfl rfl ?_
  refine gc_gd (fun hk => ?_)
  refine gc_get hC (ci := 0) (j := 0) (v := vr (cR t 1 v0)) hk dX0_logs_3 rfl (by decide) in_X0 q224 (fun _ h => h) rfl ?_
  refine gc_letr (fun x1 h_ => ?_)
  refine gc_rv (fun a2 h_ => ?_)
  subst h_
  refine gc_gd (fun hk => ?_)
  refine gc_getN hC (ci := 1) (j := 9) (v := .int (cI t 15 a2)) hk dX0_logs_6 rfl (by decide) in_X1 q181 (fun _ h => h) rfl ?_
  refine gc_letv (fun x3 h_ => ?_)
  refine gc_mmin hC hnL q1013 q816 q94 q817 dX0_logs_9 (Nat.le_of_ble_eq_true rfl) ?_
  exact gc_iret hC hrt rfl rfl dX0_logs_12
def fX0_log (v0 : Nat) (v1 : Int32) (t : cS) : Option (Int32 × cS) :=
  if v1 < 0 then
    (some ((-1 : Int32), t))
  else
    gd (cK t v0 = 1) (
    ob (fX0_logs v0 t) (fun r1 s2 =>
    if v1 < r1 then
      gd (cK s2 v0 = 1) (
      letv (cR s2 1 v0) (fun x3 =>
      rv x3 (fun a4 =>
      gd (cK s2 a4 = 2) (
      letv (cR s2 14 a4) (fun x5 =>
      gd (cK s2 v0 = 1) (
      letv (cR s2 1 v0) (fun x6 =>
      rv x6 (fun a7 =>
      gd (cK s2 a7 = 2) (
      letv (cI s2 15 a7) (fun x8 =>
      gd (cK s2 v0 = 1) (
      ob (fX0_logs v0 s2) (fun r9 s10 =>
      rv x5 (fun a11 =>
      gd (cK s10 a11 = 20 ∧ cIn s10 a11 (irm ((x8 - r9) + v1) (nI 30))) (
      letv (cI s10 (ei ((irm ((x8 - r9) + v1) (nI 30))).toNatClampNeg) a11) (fun x12 =>
      (some (x12, s10))
      )
      )
      )
      )
      )
      )
      )
      )
      )
      )
      )
      )
      )
      )
      )
    else
      (some ((-2 : Int32), s2))
    )
    )
theorem mfX0_log (v0 : Nat) (v1 : Int32) (t : cS) : MO t (fX0_log v0 v1 t) := by
  unfold fX0_log
  refine mo_ite ?_ ?_
  · exact mo_some
  · refine mo_gd ?_
    refine mo_ob (by apply mfX0_logs) (fun _ _ => ?_)
    refine mo_ite ?_ ?_
    · refine mo_gd ?_
      refine mo_letv (fun _ => ?_)
      refine mo_rv (fun _ => ?_)
      refine mo_gd ?_
      refine mo_letv (fun _ => ?_)
      refine mo_gd ?_
      refine mo_letv (fun _ => ?_)
      refine mo_rv (fun _ => ?_)
      refine mo_gd ?_
      refine mo_letv (fun _ => ?_)
      refine mo_gd ?_
      refine mo_ob (by apply mfX0_logs) (fun _ _ => ?_)
      refine mo_rv (fun _ => ?_)
      refine mo_gd ?_
      refine mo_letv (fun _ => ?_)
      exact mo_some
    · exact mo_some
set_option maxHeartbeats 4000000 in
theorem wX0_log (l : Launch) (Y : cY) (hl : l.stackTraces = false) (hY : ∀ q, q < Y.2.2.2.2.size → ¬ Y.2.2.2.1 q) (v0 : Nat) (v1 : Int32) (t : cS) : cFn l Y yX0_log (ws_ yX0_log cX0_log 2 (some .int)) 2 [.ref v0, .int v1] t (fX0_log v0 v1 t) rI := by
  refine cmet (av := [.ref v0, .int v1]) (mfX0_log v0 v1 t) hl hY (by decide +kernel) (lg_le (List.forall_mem_cons.mpr ⟨rfl, List.forall_mem_cons.mpr ⟨rfl, fun _ h => absurd h List.not_mem_nil⟩⟩) (Nat.le_of_ble_eq_true rfl)) (lv_args_cat (List.forall_mem_cons.mpr ⟨rfl, List.forall_mem_cons.mpr ⟨rfl, fun _ h => absurd h List.not_mem_nil⟩⟩)) ?_
  intro X ad0 hln hC hnL hrt hnm hT hmd
  subst hln
  have hG := hC.1
  rw [lv_args_s (List.forall_mem_cons.mpr ⟨rfl, List.forall_mem_cons.mpr ⟨rfl, fun _ h => absurd h List.not_mem_nil⟩⟩)]
  show GC X Y (cM Y X 2 t ad0 rI) _ t 0 [(0, .ref v0), (1, .int v1)] []
  unfold fX0_log
  refine gc_iload_n hG dX0_log_0 rfl rfl ?_
  refine gc_if_ge hG (tgt := 6) dX0_log_1 (by decide) ?_ ?_
  · refine gc_iconst hG (-1 : Int32) dX0_log_4 (by decide) ?_
    exact gc_iret hC hrt rfl rfl dX0_log_5
  · refine gc_iload_n hG dX0_log_6 rfl rfl ?_
    refine gc_aload_n hG (v := .ref v0) (refV_a _) dX0_log_7 rfl rfl ?_
    refine gc_gd (fun hk => ?_)
    refine gc_callV (f := fX0_logs v0 t) (As := []) (rest := [.int v1]) (n := 0) (d' := 1) (b := v0) hC hnL (wX0_logs (gLn X) Y hl hY v0 t) hk (ci := 0) rfl dX0_log_8 q1009 q1011 qs20 q74 q1012 ⟨by decide +kernel, by decide +kernel⟩ rfl (by decide) (by decide) (Nat.le_of_ble_eq_true rfl) (kn_I (fun r1 s2 => ?_)) kx_I
    refine gc_icmp_ge hG (tgt := 42) dX0_log_11 (by decide) ?_ ?_
    · refine gc_aload_n hG (v := .ref v0) (refV_a _) dX0_log_14 rfl rfl ?_
      refine gc_gd (fun hk => ?_)
      refine gc_get hC (ci := 0) (j := 0) (v := vr (cR s2 1 v0)) hk dX0_log_15 rfl (by decide) in_X0 q224 (fun _ h => h) rfl ?_
      refine gc_letr (fun x3 h_ => ?_)
      refine gc_rv (fun a4 h_ => ?_)
      subst h_
      refine gc_gd (fun hk => ?_)
      refine gc_getN hC (ci := 1) (j := 8) (v := vr (cR s2 14 a4)) hk dX0_log_18 rfl (by decide) in_X1 q179 (fun _ h => h) rfl ?_
      refine gc_letr (fun x5 h_ => ?_)
      refine gc_aload_n hG (v := .ref v0) (refV_a _) dX0_log_21 rfl rfl ?_
      refine gc_gd (fun hk => ?_)
      refine gc_get hC (ci := 0) (j := 0) (v := vr (cR s2 1 v0)) hk dX0_log_22 rfl (by decide) in_X0 q224 (fun _ h => h) rfl ?_
      refine gc_letr (fun x6 h_ => ?_)
      refine gc_rv (fun a7 h_ => ?_)
      subst h_
      refine gc_gd (fun hk => ?_)
      refine gc_getN hC (ci := 1) (j := 9) (v := .int (cI s2 15 a7)) hk dX0_log_25 rfl (by decide) in_X1 q181 (fun _ h => h) rfl ?_
      refine gc_letv (fun x8 h_ => ?_)
      refine gc_aload_n hG (v := .ref v0) (refV_a _) dX0_log_28 rfl rfl ?_
      refine gc_gd (fun hk => ?_)
      refine gc_callV (f := fX0_logs v0 s2) (As := []) (rest := [.int x8, vr x5]) (n := 0) (d' := 1) (b := v0) hC hnL (wX0_logs (gLn X) Y hl hY v0 s2) hk (ci := 0) rfl dX0_log_29 q1009 q1011 qs20 q74 q1012 ⟨by decide +kernel, by decide +kernel⟩ rfl (by decide) (by decide) (by simp [cat_vr, cat_r, cat_i, cat_n]) (kn_I (fun r9 s10 => ?_)) kx_I
      refine gc_isub hG dX0_log_32 ?_
      refine gc_iload_n hG dX0_log_33 rfl rfl ?_
      refine gc_iadd hG dX0_log_34 ?_
      refine gc_bipush hG (nI 30) dX0_log_35 (by decide) ?_
      refine gc_irem hG dX0_log_37 (by decide) ?_
      refine gc_rv (fun a11 h_ => ?_)
      subst h_
      refine gc_gd (fun hk => ?_)
      refine gc_iald hC hk.1 hk.2 dX0_log_38 ?_
      refine gc_letv (fun x12 h_ => ?_)
      refine gc_goto hG (tgt := 44) dX0_log_39 (by decide) ?_
      exact gc_iret hC hrt rfl rfl dX0_log_44
    · refine gc_bipush hG (-2 : Int32) dX0_log_42 (by decide) ?_
      exact gc_iret hC hrt rfl rfl dX0_log_44
def fX11_below (v0 : Nat) (t : cS) : Option (Option Nat × cS) :=
  gd (cK t v0 = 10) (
  gd (cCok t v0 = true) (
  letv (cCause t v0) (fun x1 =>
  onul x1 (
    if (nI 0) = 0 then
      (some (none, t))
    else
      none
  ) (fun a2 =>
    gd (cK t a2 = 10 ∨ cK t a2 = 11 ∨ cK t a2 = 12) (letv (if cK t a2 = 10 then (nI 1) else (nI 0)) (fun x3 =>
    if x3 = 0 then
      (some (none, t))
    else
      gd (cK t a2 = 10) (
      (some ((some a2), t))
      )
    ))
  )
  )
  )
  )
theorem mfX11_below (v0 : Nat) (t : cS) : MO t (fX11_below v0 t) := by
  unfold fX11_below
  refine mo_gd ?_
  refine mo_gd ?_
  refine mo_letv (fun _ => ?_)
  refine mo_onul ?_ (fun _ => ?_)
  · refine mo_ite ?_ ?_
    · exact mo_some
    · exact mo_none
  · refine mo_gd ?_
    refine mo_letv (fun _ => ?_)
    refine mo_ite ?_ ?_
    · exact mo_some
    · refine mo_gd ?_
      exact mo_some
set_option maxHeartbeats 4000000 in
theorem wX11_below (l : Launch) (Y : cY) (hl : l.stackTraces = false) (hY : ∀ q, q < Y.2.2.2.2.size → ¬ Y.2.2.2.1 q) (v0 : Nat) (t : cS) : cFn l Y yX11_below (ws_ yX11_below cX11_below 3 (some (.object "ActorTrees$Failure"))) 1 [.ref v0] t (fX11_below v0 t) rR := by
  refine cmet (av := [.ref v0]) (mfX11_below v0 t) hl hY (by decide +kernel) (lg_le (List.forall_mem_cons.mpr ⟨rfl, fun _ h => absurd h List.not_mem_nil⟩) (Nat.le_of_ble_eq_true rfl)) (lv_args_cat (List.forall_mem_cons.mpr ⟨rfl, fun _ h => absurd h List.not_mem_nil⟩)) ?_
  intro X ad0 hln hC hnL hrt hnm hT hmd
  subst hln
  have hG := hC.1
  rw [lv_args_s (List.forall_mem_cons.mpr ⟨rfl, fun _ h => absurd h List.not_mem_nil⟩)]
  show GC X Y (cM Y X 3 t ad0 rR) _ t 0 [(0, .ref v0)] []
  unfold fX11_below
  refine gc_aload_n hG (v := .ref v0) (refV_a _) dX11_below_0 rfl rfl ?_
  refine gc_gd (fun hk => ?_)
  refine gc_gd (fun hok => ?_)
  refine gc_cause hC hnL hk hok dX11_below_1 (Nat.le_of_ble_eq_true rfl) ?_
  refine gc_letr (fun x1 h_ => ?_)
  refine gc_astore_n hG (refV_x _) dX11_below_4 rfl (Nat.le_of_ble_eq_true rfl) (lv' := [(0, _), (2, _)]) rfl ?_
  refine gc_aload_n hG (v := vr x1) (refV_x _) dX11_below_5 rfl rfl ?_
  refine gc_onul (x := x1) (fun h_ => ?_) (fun a2 h_ => ?_)
  · subst h_
    refine gc_instN hG dX11_below_6 ?_
    refine gc_if_eq hG (tgt := 21) dX11_below_9 (by decide) ?_ ?_
    · refine gc_null hG dX11_below_21 ?_
      exact gc_aret hC hrt (Or.inl ⟨_, rfl⟩) (Or.inl rfl) rfl dX11_below_22
    · refine gc_aload_n hG (v := .null) (Or.inl rfl) dX11_below_12 rfl rfl ?_
      exact gc_none
  · subst h_
    refine gc_gd (fun hk => ?_)
    rcases hk with hk | hk | hk
    · refine gc_instE hC hk (ci := 9) rfl q1032 dX11_below_6 ?_
      refine gc_letvE (by rw [if_pos hk]; rfl) (fun x3 h_ => ?_)
      refine gc_if_eq hG (tgt := 21) dX11_below_9 (by decide) ?_ ?_
      · refine gc_null hG dX11_below_21 ?_
        exact gc_aret hC hrt (Or.inl ⟨_, rfl⟩) (Or.inl rfl) rfl dX11_below_22
      · refine gc_aload_n hG (v := .ref a2) (refV_a _) dX11_below_12 rfl rfl ?_
        refine gc_gd (fun hk => ?_)
        refine gc_castE hC hk (ci := 9) rfl q1032 dX11_below_13 ?_
        refine gc_astore_n hG (refV_a _) dX11_below_16 rfl (Nat.le_of_ble_eq_true rfl) (lv' := [(0, _), (1, _), (2, _)]) rfl ?_
        refine gc_aload_n hG (v := .ref a2) (refV_a _) dX11_below_17 rfl rfl ?_
        refine gc_goto hG (tgt := 22) dX11_below_18 (by decide) ?_
        exact gc_aret hC hrt (Or.inl ⟨_, rfl⟩) (refV_a _) rfl dX11_below_22
    · refine gc_instNo hC hk (ci := 10) rfl q1032 (by decide +kernel) dX11_below_6 ?_
      refine gc_letvE (by rw [if_neg (by rw [hk]; decide)]; rfl) (fun x3 h_ => ?_)
      refine gc_if_eq hG (tgt := 21) dX11_below_9 (by decide) ?_ ?_
      · refine gc_null hG dX11_below_21 ?_
        exact gc_aret hC hrt (Or.inl ⟨_, rfl⟩) (Or.inl rfl) rfl dX11_below_22
      · refine gc_aload_n hG (v := .ref a2) (refV_a _) dX11_below_12 rfl rfl ?_
        refine gc_gd (fun hk => ?_)
        refine gc_castE hC hk (ci := 9) rfl q1032 dX11_below_13 ?_
        refine gc_astore_n hG (refV_a _) dX11_below_16 rfl (Nat.le_of_ble_eq_true rfl) (lv' := [(0, _), (1, _), (2, _)]) rfl ?_
        refine gc_aload_n hG (v := .ref a2) (refV_a _) dX11_below_17 rfl rfl ?_
        refine gc_goto hG (tgt := 22) dX11_below_18 (by decide) ?_
        exact gc_aret hC hrt (Or.inl ⟨_, rfl⟩) (refV_a _) rfl dX11_below_22
    · refine gc_instNo hC hk (ci := 11) rfl q1032 (by decide +kernel) dX11_below_6 ?_
      refine gc_letvE (by rw [if_neg (by rw [hk]; decide)]; rfl) (fun x3 h_ => ?_)
      refine gc_if_eq hG (tgt := 21) dX11_below_9 (by decide) ?_ ?_
      · refine gc_null hG dX11_below_21 ?_
        exact gc_aret hC hrt (Or.inl ⟨_, rfl⟩) (Or.inl rfl) rfl dX11_below_22
      · refine gc_aload_n hG (v := .ref a2) (refV_a _) dX11_below_12 rfl rfl ?_
        refine gc_gd (fun hk => ?_)
        refine gc_castE hC hk (ci := 9) rfl q1032 dX11_below_13 ?_
        refine gc_astore_n hG (refV_a _) dX11_below_16 rfl (Nat.le_of_ble_eq_true rfl) (lv' := [(0, _), (1, _), (2, _)]) rfl ?_
        refine gc_aload_n hG (v := .ref a2) (refV_a _) dX11_below_17 rfl rfl ?_
        refine gc_goto hG (tgt := 22) dX11_below_18 (by decide) ?_
        exact gc_aret hC hrt (Or.inl ⟨_, rfl⟩) (refV_a _) rfl dX11_below_22
def fX11_at_L4 (v1 : Int32) (kx : Option Nat → cS → Option (Option Nat × cS)) : Nat → Option Nat → Int32 → cS → Option (Option Nat × cS)
  | 0, _, _, _ => none
  | k + 1, v2, v3, t =>
    if v3 < v1 then
      onul v2 (
        kx none t
      ) (fun a1 =>
        gd (cK t a1 = 10) (
        ob (fX11_below a1 t) (fun r2 s3 =>
        letv (v3 + (nI 1)) (fun y4 =>
        fX11_at_L4 v1 kx k r2 y4 s3
        )
        )
        )
      )
    else
      kx v2 t
theorem mfX11_at_L4 (v1 : Int32) (kx : Option Nat → cS → Option (Option Nat × cS)) (hkx : ∀ (v2 : Option Nat) (t : cS), MO t (kx v2 t)) : ∀ (k : Nat) (v2 : Option Nat) (v3 : Int32) (t : cS), MO t (fX11_at_L4 v1 kx k v2 v3 t) := by
  intro k
  induction k with
  | zero => intro v2 v3 t; exact mo_none
  | succ k ih =>
    intro v2 v3 t
    rw [fX11_at_L4]
    refine mo_ite ?_ ?_
    · refine mo_onul ?_ (fun _ => ?_)
      · exact hkx _ _
      · refine mo_gd ?_
        refine mo_ob (by apply mfX11_below) (fun _ _ => ?_)
        refine mo_letv (fun _ => ?_)
        exact ih _ _ _
    · exact hkx _ _
set_option maxHeartbeats 4000000 in
theorem gfX11_at_L4 {X : gCx} {Y : cY} {s0 : cS} {ad0 : Nat → Nat} (hC : cOk X Y RX11 cX11_at 2) (hl : (gLn X).stackTraces = false) (hY : ∀ q, q < Y.2.2.2.2.size → ¬ Y.2.2.2.1 q) (hnL : gLoc X = 4) (hrt : gRet X = (some (.object "ActorTrees$Failure"))) (hnm : X.2.2.2.2.2.2.2.2.1.name = "at") (hT : gTab X = []) (hmd : (gSt X).methodNamed? yX11_at = some (gMe X)) (v1 : Int32) (kx : Option Nat → cS → Option (Option Nat × cS)) (hkx : ∀ (v2 : Option Nat) (t : cS), GC X Y (cM Y X 4 s0 ad0 rR) (kx v2 t) t 24 [(2, vr v2)] []) : ∀ (k : Nat) (v2 : Option Nat) (v3 : Int32) (t : cS), GC X Y (cM Y X 4 s0 ad0 rR) (fX11_at_L4 v1 kx k v2 v3 t) t 4 [(1, .int v1), (2, vr v2), (3, .int v3)] [] := by
  have hG := hC.1
  intro k
  induction k with
  | zero => intro v2 v3 t; exact gc_none
  | succ k ih =>
    intro v2 v3 t
    rw [fX11_at_L4]
    refine gc_iload_n hG dX11_at_4 rfl rfl ?_
    refine gc_iload_n hG dX11_at_5 rfl rfl ?_
    refine gc_icmp_ge hG (tgt := 24) dX11_at_6 (by decide) ?_ ?_
    · refine gc_aload_n hG (v := vr v2) (refV_x _) dX11_at_9 rfl rfl ?_
      refine gc_ifnull hG (tgt := 24) dX11_at_10 (by decide) (fun h_ => ?_) (fun a1 h_ => ?_)
      · subst h_
        refine gc_sub [1] rfl ?_
        exact hkx none t
      · subst h_
        refine gc_aload_n hG (v := .ref a1) (refV_a _) dX11_at_13 rfl rfl ?_
        refine gc_gd (fun hk => ?_)
        refine gc_callV (f := fX11_below a1 t) (As := []) (rest := []) (n := 0) (d' := 1) (b := a1) hC hnL (wX11_below (gLn X) Y hl hY a1 t) hk (ci := 9) rfl dX11_at_14 q1022 q1023 q1024 q91 q1025 ⟨by decide +kernel, by decide +kernel⟩ rfl (by decide) (by decide) (Nat.le_of_ble_eq_true rfl) (kn_R (fun r2 s3 => ?_)) kx_R
        refine gc_astore_n hG (refV_x _) dX11_at_17 rfl (Nat.le_of_ble_eq_true rfl) (lv' := [(1, _), (2, _), (3, _)]) rfl ?_
        refine gc_letiinc hG (c := (nI 1)) (lv' := fun y4 => [(1, .int v1), (2, vr r2), (3, .int y4)]) dX11_at_18 rfl (by decide) (Nat.le_of_ble_eq_true rfl) (fun _ => rfl) (fun y4 => ?_)
        refine gc_goto hG (tgt := 4) dX11_at_21 (by decide) ?_
        exact ih r2 y4 s3
    · refine gc_sub [1] rfl ?_
      exact hkx v2 t
def fX11_at (v0 : Nat) (v1 : Int32) (t : cS) : Option (Option Nat × cS) :=
  fX11_at_L4 v1 (fun (v2_5 : Option Nat) (t6 : cS) =>
    (some (v2_5, t6))
    ) FU (some v0) (nI 0) t
theorem mfX11_at (v0 : Nat) (v1 : Int32) (t : cS) : MO t (fX11_at v0 v1 t) := by
  unfold fX11_at
  refine mfX11_at_L4 _ _ (fun _ _ => ?_) _ _ _ _
  exact mo_some
set_option maxHeartbeats 4000000 in
theorem wX11_at (l : Launch) (Y : cY) (hl : l.stackTraces = false) (hY : ∀ q, q < Y.2.2.2.2.size → ¬ Y.2.2.2.1 q) (v0 : Nat) (v1 : Int32) (t : cS) : cFn l Y yX11_at (ws_ yX11_at cX11_at 4 (some (.object "ActorTrees$Failure"))) 2 [.ref v0, .int v1] t (fX11_at v0 v1 t) rR := by
  refine cmet (av := [.ref v0, .int v1]) (mfX11_at v0 v1 t) hl hY (by decide +kernel) (lg_le (List.forall_mem_cons.mpr ⟨rfl, List.forall_mem_cons.mpr ⟨rfl, fun _ h => absurd h List.not_mem_nil⟩⟩) (Nat.le_of_ble_eq_true rfl)) (lv_args_cat (List.forall_mem_cons.mpr ⟨rfl, List.forall_mem_cons.mpr ⟨rfl, fun _ h => absurd h List.not_mem_nil⟩⟩)) ?_
  intro X ad0 hln hC hnL hrt hnm hT hmd
  subst hln
  have hG := hC.1
  rw [lv_args_s (List.forall_mem_cons.mpr ⟨rfl, List.forall_mem_cons.mpr ⟨rfl, fun _ h => absurd h List.not_mem_nil⟩⟩)]
  show GC X Y (cM Y X 4 t ad0 rR) _ t 0 [(0, .ref v0), (1, .int v1)] []
  unfold fX11_at
  refine gc_aload_n hG (v := .ref v0) (refV_a _) dX11_at_0 rfl rfl ?_
  refine gc_astore_n hG (refV_a _) dX11_at_1 rfl (Nat.le_of_ble_eq_true rfl) (lv' := [(0, _), (1, _), (2, _)]) rfl ?_
  refine gc_iconst hG (nI 0) dX11_at_2 (by decide) ?_
  refine gc_istore_n hG dX11_at_3 rfl (Nat.le_of_ble_eq_true rfl) (lv' := [(0, _), (1, _), (2, _), (3, _)]) rfl ?_
  refine gc_sub [1, 2, 3] rfl ?_
  refine gfX11_at_L4 (s0 := t) (ad0 := ad0) hC hl hY hnL hrt hnm hT hmd v1 _ (fun v2_5 t6 => ?_) FU (some v0) (nI 0) t
  refine gc_aload_n hG (v := vr v2_5) (refV_x _) dX11_at_24 rfl rfl ?_
  exact gc_aret hC hrt (Or.inl ⟨_, rfl⟩) (refV_x _) rfl dX11_at_25
def fX0_cause (v0 : Nat) (v1 : Int32) (v2 : Int32) (t : cS) : Option (Int32 × cS) :=
  if v1 < 0 then
    (some ((-1 : Int32), t))
  else
    ob (fX0_within v2 (nI 0) (nI 1) t) (fun r1 s2 =>
    if r1 = 0 then
      (some ((-1 : Int32), s2))
    else
      gd (cK s2 v0 = 1) (
      letv (cR s2 1 v0) (fun x3 =>
      rv x3 (fun a4 =>
      gd (cK s2 a4 = 2) (
      letv (cR s2 16 a4) (fun x5 =>
      onul x5 (
        letv (sX s2 1 8) (fun s18 =>
        (some ((-2 : Int32), s18))
        )
      ) (fun a7 =>
        gd (cK s2 a7 = 10) (
        ob (fX11_at a7 v1 s2) (fun r8 s9 =>
        if v2 = 0 then
          onul r8 (
            letv (sX s9 1 8) (fun s13 =>
            (some ((-2 : Int32), s13))
            )
          ) (fun a11 =>
            gd (cK s9 a11 = 10) (
            letv (cI s9 57 a11) (fun x12 =>
            (some (x12, s9))
            )
            )
          )
        else
          onul r8 (
            letv (sX s9 1 8) (fun s17 =>
            (some ((-2 : Int32), s17))
            )
          ) (fun a15 =>
            gd (cK s9 a15 = 10) (
            letv (cI s9 58 a15) (fun x16 =>
            (some (x16, s9))
            )
            )
          )
        )
        )
      )
      )
      )
      )
      )
      )
    )
theorem mfX0_cause (v0 : Nat) (v1 : Int32) (v2 : Int32) (t : cS) : MO t (fX0_cause v0 v1 v2 t) := by
  unfold fX0_cause
  refine mo_ite ?_ ?_
  · exact mo_some
  · refine mo_ob (by apply mfX0_within) (fun _ _ => ?_)
    refine mo_ite ?_ ?_
    · exact mo_some
    · refine mo_gd ?_
      refine mo_letv (fun _ => ?_)
      refine mo_rv (fun _ => ?_)
      refine mo_gd ?_
      refine mo_letv (fun _ => ?_)
      refine mo_onul ?_ (fun _ => ?_)
      · refine mo_letS cMo_sX (fun _ => ?_)
        exact mo_some
      · refine mo_gd ?_
        refine mo_ob (by apply mfX11_at) (fun _ _ => ?_)
        refine mo_ite ?_ ?_
        · refine mo_onul ?_ (fun _ => ?_)
          · refine mo_letS cMo_sX (fun _ => ?_)
            exact mo_some
          · refine mo_gd ?_
            refine mo_letv (fun _ => ?_)
            exact mo_some
        · refine mo_onul ?_ (fun _ => ?_)
          · refine mo_letS cMo_sX (fun _ => ?_)
            exact mo_some
          · refine mo_gd ?_
            refine mo_letv (fun _ => ?_)
            exact mo_some
set_option maxHeartbeats 4000000 in
theorem wX0_cause (l : Launch) (Y : cY) (hl : l.stackTraces = false) (hY : ∀ q, q < Y.2.2.2.2.size → ¬ Y.2.2.2.1 q) (v0 : Nat) (v1 : Int32) (v2 : Int32) (t : cS) : cFn l Y yX0_cause (wsW_ yX0_cause cX0_cause 4 (some .int) [(15, 42, 43, 133)]) 3 [.ref v0, .int v1, .int v2] t (fX0_cause v0 v1 v2 t) rI := by
  refine cmetW (av := [.ref v0, .int v1, .int v2]) (mfX0_cause v0 v1 v2 t) hl hY (by decide +kernel) (lg_le (List.forall_mem_cons.mpr ⟨rfl, List.forall_mem_cons.mpr ⟨rfl, List.forall_mem_cons.mpr ⟨rfl, fun _ h => absurd h List.not_mem_nil⟩⟩⟩) (Nat.le_of_ble_eq_true rfl)) (lv_args_cat (List.forall_mem_cons.mpr ⟨rfl, List.forall_mem_cons.mpr ⟨rfl, List.forall_mem_cons.mpr ⟨rfl, fun _ h => absurd h List.not_mem_nil⟩⟩⟩)) ?_
  intro X ad0 hln hC hnL hrt hnm hT hmd
  subst hln
  have hG := hC.1
  rw [lv_args_s (List.forall_mem_cons.mpr ⟨rfl, List.forall_mem_cons.mpr ⟨rfl, List.forall_mem_cons.mpr ⟨rfl, fun _ h => absurd h List.not_mem_nil⟩⟩⟩)]
  show GC X Y (cM Y X 4 t ad0 rI) _ t 0 [(0, .ref v0), (1, .int v1), (2, .int v2)] []
  unfold fX0_cause
  refine gc_iload_n hG dX0_cause_0 rfl rfl ?_
  refine gc_if_lt hG (tgt := 13) dX0_cause_1 (by decide) ?_ ?_
  · refine gc_iconst hG (-1 : Int32) dX0_cause_13 (by decide) ?_
    exact gc_iret hC hrt rfl rfl dX0_cause_14
  · refine gc_iload_n hG dX0_cause_4 rfl rfl ?_
    refine gc_iconst hG (nI 0) dX0_cause_5 (by decide) ?_
    refine gc_iconst hG (nI 1) dX0_cause_6 (by decide) ?_
    refine gc_callS (f := fX0_within v2 (nI 0) (nI 1) t) (As := [.int v2, .int (nI 0), .int (nI 1)]) (rest := []) (n := 3) (d' := 1) hC hnL (wX0_within (gLn X) Y hl hY v2 (nI 0) (nI 1) t) dX0_cause_7 q370 q250 q74 q251 ⟨by decide +kernel, by decide +kernel⟩ rfl (by decide) (by decide) (Nat.le_of_ble_eq_true rfl) (kn_I (fun r1 s2 => ?_)) kx_I
    refine gc_if_ne hG (tgt := 15) dX0_cause_10 (by decide) ?_ ?_
    · refine gc_iconst hG (-1 : Int32) dX0_cause_13 (by decide) ?_
      exact gc_iret hC hrt rfl rfl dX0_cause_14
    · refine gc_aload_n hG (v := .ref v0) (refV_a _) dX0_cause_15 rfl rfl ?_
      refine gc_gd (fun hk => ?_)
      refine gc_get hC (ci := 0) (j := 0) (v := vr (cR s2 1 v0)) hk dX0_cause_16 rfl (by decide) in_X0 q224 (fun _ h => h) rfl ?_
      refine gc_letr (fun x3 h_ => ?_)
      refine gc_rv (fun a4 h_ => ?_)
      subst h_
      refine gc_gd (fun hk => ?_)
      refine gc_getN hC (ci := 1) (j := 10) (v := vr (cR s2 16 a4)) hk dX0_cause_19 rfl (by decide) in_X1 q183 (fun _ h => h) rfl ?_
      refine gc_letr (fun x5 h_ => ?_)
      refine gc_iload_n hG dX0_cause_22 rfl rfl ?_
      refine gc_onul (x := x5) (fun h_ => ?_) (fun a7 h_ => ?_)
      · subst h_
        refine gc_invX (As := [.int v1]) (st := []) hC dX0_cause_23 q1018 q1019 q1020 q1021 ⟨by decide +kernel, by show _ = some 1; decide +kernel⟩ (Nat.le_of_ble_eq_true rfl) ?_
        refine gnn_catch hC hnL [] ((tableOf [(15, 42, 43, 133)])[0]) [] (by rw [hT]; rfl) (fun _ h => absurd h List.not_mem_nil) rfl (by decide) q494 q564 rfl ?_
        refine gc_sub [] rfl ?_
        refine gn_letS (fun s18 => ?_)
        refine gc_astore_n hG (refV_a _) dX0_cause_43 rfl (Nat.le_of_ble_eq_true rfl) (lv' := [(3, _)]) rfl ?_
        refine gc_bipush hG (-2 : Int32) dX0_cause_44 (by decide) ?_
        exact gc_iret hC hrt rfl rfl dX0_cause_46
      · subst h_
        refine gc_gd (fun hk => ?_)
        refine gc_callV (f := fX11_at a7 v1 s2) (As := [.int v1]) (rest := []) (n := 1) (d' := 2) (b := a7) hC hnL (wX11_at (gLn X) Y hl hY a7 v1 s2) hk (ci := 9) rfl dX0_cause_23 q1018 q1019 q1020 q91 q1021 ⟨by decide +kernel, by decide +kernel⟩ rfl (by decide) (by decide) (Nat.le_of_ble_eq_true rfl) (kn_R (fun r8 s9 => ?_)) kx_R
        refine gc_astore_n hG (refV_x _) dX0_cause_26 rfl (Nat.le_of_ble_eq_true rfl) (lv' := [(0, _), (1, _), (2, _), (3, _)]) rfl ?_
        refine gc_iload_n hG dX0_cause_27 rfl rfl ?_
        refine gc_if_ne hG (tgt := 38) dX0_cause_28 (by decide) ?_ ?_
        · refine gc_aload_n hG (v := vr r8) (refV_x _) dX0_cause_31 rfl rfl ?_
          refine gc_onul (x := r8) (fun h_ => ?_) (fun a11 h_ => ?_)
          · subst h_
            refine gc_getXN hC (ci := 9) (j := 6) dX0_cause_32 rfl (by decide) in_X11 q751 (fun _ h => h) (Nat.le_of_ble_eq_true rfl) ?_
            refine gnn_catch hC hnL [] ((tableOf [(15, 42, 43, 133)])[0]) [] (by rw [hT]; rfl) (fun _ h => absurd h List.not_mem_nil) rfl (by decide) q494 q564 rfl ?_
            refine gc_sub [] rfl ?_
            refine gn_letS (fun s13 => ?_)
            refine gc_astore_n hG (refV_a _) dX0_cause_43 rfl (Nat.le_of_ble_eq_true rfl) (lv' := [(3, _)]) rfl ?_
            refine gc_bipush hG (-2 : Int32) dX0_cause_44 (by decide) ?_
            exact gc_iret hC hrt rfl rfl dX0_cause_46
          · subst h_
            refine gc_gd (fun hk => ?_)
            refine gc_getN hC (ci := 9) (j := 6) (v := .int (cI s9 57 a11)) hk dX0_cause_32 rfl (by decide) in_X11 q751 (fun _ h => h) rfl ?_
            refine gc_letv (fun x12 h_ => ?_)
            refine gc_goto hG (tgt := 42) dX0_cause_35 (by decide) ?_
            exact gc_iret hC hrt rfl rfl dX0_cause_42
        · refine gc_aload_n hG (v := vr r8) (refV_x _) dX0_cause_38 rfl rfl ?_
          refine gc_onul (x := r8) (fun h_ => ?_) (fun a15 h_ => ?_)
          · subst h_
            refine gc_getXN hC (ci := 9) (j := 7) dX0_cause_39 rfl (by decide) in_X11 q754 (fun _ h => h) (Nat.le_of_ble_eq_true rfl) ?_
            refine gnn_catch hC hnL [] ((tableOf [(15, 42, 43, 133)])[0]) [] (by rw [hT]; rfl) (fun _ h => absurd h List.not_mem_nil) rfl (by decide) q494 q564 rfl ?_
            refine gc_sub [] rfl ?_
            refine gn_letS (fun s17 => ?_)
            refine gc_astore_n hG (refV_a _) dX0_cause_43 rfl (Nat.le_of_ble_eq_true rfl) (lv' := [(3, _)]) rfl ?_
            refine gc_bipush hG (-2 : Int32) dX0_cause_44 (by decide) ?_
            exact gc_iret hC hrt rfl rfl dX0_cause_46
          · subst h_
            refine gc_gd (fun hk => ?_)
            refine gc_getN hC (ci := 9) (j := 7) (v := .int (cI s9 58 a15)) hk dX0_cause_39 rfl (by decide) in_X11 q754 (fun _ h => h) rfl ?_
            refine gc_letv (fun x16 h_ => ?_)
            exact gc_iret hC hrt rfl rfl dX0_cause_42
def fX5_copy (v0 : Nat) (t : cS) : Option (Option Nat × cS) :=
  letv (sN t 5 0 17) (fun s1 =>
  gd (cK s1 v0 = 5) (
  letv (cI s1 26 v0) (fun x2 =>
  gd (cK s1 v0 = 5) (
  letv (cI s1 27 v0) (fun x3 =>
  gd (cK s1 v0 = 5) (
  letv (cI s1 28 v0) (fun x4 =>
  gd (cK s1 v0 = 5) (
  letv (cI s1 29 v0) (fun x5 =>
  gd (cK s1 v0 = 5) (
  letv (cI s1 31 v0) (fun x6 =>
  gd (cK s1 v0 = 5) (
  letv (cI s1 32 v0) (fun x7 =>
  ob (fX5_init (cn t) x2 x3 x4 x5 x6 x7 s1) (fun r8 s9 =>
  gd (cK s9 v0 = 5) (
  letv (cI s9 33 v0) (fun x10 =>
  gd (x10 = nI 0 ∨ x10 = nI 1) (
  gd (cK s9 (cn t) = 5) (
  letv (sI s9 33 (cn t) x10) (fun s11 =>
  gd (cK s11 v0 = 5) (
  letv (cI s11 34 v0) (fun x12 =>
  gd (cK s11 (cn t) = 5) (
  letv (sI s11 34 (cn t) x12) (fun s13 =>
  gd (cK s13 v0 = 5) (
  letv (cR s13 35 v0) (fun x14 =>
  gd (cK s13 (cn t) = 5) (
  letv (cR s13 35 (cn t)) (fun x15 =>
  rv x14 (fun a16 =>
  rv x15 (fun a17 =>
  gd ((cK s13 a16 = 20 ∧ cK s13 a17 = 20) ∧ a16 ≠ a17 ∧ (¬ (nI 0) < 0 ∧ ¬ (nI 0) < 0 ∧ ¬ (nI 5) < 0) ∧ (nI 0).toNatClampNeg + (nI 5).toNatClampNeg ≤ cL s13 a16 ∧ (nI 0).toNatClampNeg + (nI 5).toNatClampNeg ≤ cL s13 a17) (letv (sCp s13 a16 a17 (nI 0).toNatClampNeg (nI 0).toNatClampNeg (nI 5).toNatClampNeg) (fun s18 =>
  gd (cK s18 v0 = 5) (
  letv (cI s18 36 v0) (fun x19 =>
  gd (cK s18 (cn t) = 5) (
  letv (sI s18 36 (cn t) x19) (fun s20 =>
  gd (cK s20 (cn t) = 5) (
  letv (cR s20 37 (cn t)) (fun x21 =>
  gd (cK s20 v0 = 5) (
  letv (cR s20 37 v0) (fun x22 =>
  rv x21 (fun a23 =>
  gd (cK s20 a23 = 3) (
  ob (fX2_all a23 x22 s20) (fun r24 s25 =>
  gd (cK s25 (cn t) = 5) (
  letv (cR s25 38 (cn t)) (fun x26 =>
  gd (cK s25 v0 = 5) (
  letv (cR s25 38 v0) (fun x27 =>
  rv x26 (fun a28 =>
  gd (cK s25 a28 = 3) (
  ob (fX2_all a28 x27 s25) (fun r29 s30 =>
  gd (cK s30 (cn t) = 5) (
  letv (cR s30 39 (cn t)) (fun x31 =>
  gd (cK s30 v0 = 5) (
  letv (cR s30 39 v0) (fun x32 =>
  rv x31 (fun a33 =>
  gd (cK s30 a33 = 3) (
  ob (fX2_all a33 x32 s30) (fun r34 s35 =>
  gd (cK s35 (cn t) = 5) (
  letv (cR s35 40 (cn t)) (fun x36 =>
  gd (cK s35 v0 = 5) (
  letv (cR s35 40 v0) (fun x37 =>
  rv x36 (fun a38 =>
  gd (cK s35 a38 = 3) (
  ob (fX2_all a38 x37 s35) (fun r39 s40 =>
  (some ((some (cn t)), s40))
  )
  )
  )
  )
  )
  )
  )
  )
  )
  )
  )
  )
  )
  )
  )
  )
  )
  )
  )
  )
  )
  )
  )
  )
  )
  )
  )
  )
  )
  )
  )
  )
  ))
  )
  )
  )
  )
  )
  )
  )
  )
  )
  )
  )
  )
  )
  )
  )
  )
  )
  )
  )
  )
  )
  )
  )
  )
  )
  )
  )
  )
  )
theorem mfX5_copy (v0 : Nat) (t : cS) : MO t (fX5_copy v0 t) := by
  unfold fX5_copy
  refine mo_letS cMo_sN (fun _ => ?_)
  refine mo_gd ?_
  refine mo_letv (fun _ => ?_)
  refine mo_gd ?_
  refine mo_letv (fun _ => ?_)
  refine mo_gd ?_
  refine mo_letv (fun _ => ?_)
  refine mo_gd ?_
  refine mo_letv (fun _ => ?_)
  refine mo_gd ?_
  refine mo_letv (fun _ => ?_)
  refine mo_gd ?_
  refine mo_letv (fun _ => ?_)
  refine mo_ob (by apply mfX5_init) (fun _ _ => ?_)
  refine mo_gd ?_
  refine mo_letv (fun _ => ?_)
  refine mo_gd ?_
  refine mo_gd ?_
  refine mo_letS cMo_sI (fun _ => ?_)
  refine mo_gd ?_
  refine mo_letv (fun _ => ?_)
  refine mo_gd ?_
  refine mo_letS cMo_sI (fun _ => ?_)
  refine mo_gd ?_
  refine mo_letv (fun _ => ?_)
  refine mo_gd ?_
  refine mo_letv (fun _ => ?_)
  refine mo_rv (fun _ => ?_)
  refine mo_rv (fun _ => ?_)
  refine mo_gd ?_
  refine mo_letS cMo_sCp (fun _ => ?_)
  refine mo_gd ?_
  refine mo_letv (fun _ => ?_)
  refine mo_gd ?_
  refine mo_letS cMo_sI (fun _ => ?_)
  refine mo_gd ?_
  refine mo_letv (fun _ => ?_)
  refine mo_gd ?_
  refine mo_letv (fun _ => ?_)
  refine mo_rv (fun _ => ?_)
  refine mo_gd ?_
  refine mo_ob (by apply mfX2_all) (fun _ _ => ?_)
  refine mo_gd ?_
  refine mo_letv (fun _ => ?_)
  refine mo_gd ?_
  refine mo_letv (fun _ => ?_)
  refine mo_rv (fun _ => ?_)
  refine mo_gd ?_
  refine mo_ob (by apply mfX2_all) (fun _ _ => ?_)
  refine mo_gd ?_
  refine mo_letv (fun _ => ?_)
  refine mo_gd ?_
  refine mo_letv (fun _ => ?_)
  refine mo_rv (fun _ => ?_)
  refine mo_gd ?_
  refine mo_ob (by apply mfX2_all) (fun _ _ => ?_)
  refine mo_gd ?_
  refine mo_letv (fun _ => ?_)
  refine mo_gd ?_
  refine mo_letv (fun _ => ?_)
  refine mo_rv (fun _ => ?_)
  refine mo_gd ?_
  refine mo_ob (by apply mfX2_all) (fun _ _ => ?_)
  exact mo_some
set_option maxHeartbeats 4000000 in
theorem wX5_copy (l : Launch) (Y : cY) (hl : l.stackTraces = false) (hY : ∀ q, q < Y.2.2.2.2.size → ¬ Y.2.2.2.1 q) (v0 : Nat) (t : cS) : cFn l Y yX5_copy (ws_ yX5_copy cX5_copy 2 (some (.object "ActorTrees$Actor"))) 4 [.ref v0] t (fX5_copy v0 t) rR := by
  refine cmet (av := [.ref v0]) (mfX5_copy v0 t) hl hY (by decide +kernel) (lg_le (List.forall_mem_cons.mpr ⟨rfl, fun _ h => absurd h List.not_mem_nil⟩) (Nat.le_of_ble_eq_true rfl)) (lv_args_cat (List.forall_mem_cons.mpr ⟨rfl, fun _ h => absurd h List.not_mem_nil⟩)) ?_
  intro X ad0 hln hC hnL hrt hnm hT hmd
  subst hln
  have hG := hC.1
  rw [lv_args_s (List.forall_mem_cons.mpr ⟨rfl, fun _ h => absurd h List.not_mem_nil⟩)]
  show GC X Y (cM Y X 2 t ad0 rR) _ t 0 [(0, .ref v0)] []
  unfold fX5_copy
  refine gc_new hC (ci := 4) tyX5 tyX5_ok rfl in_X5 dX5_copy_0 q1047 q256 q79 (by decide +kernel) ?_
  refine gc_letS (fun s1 => ?_)
  refine gc_dup hG dX5_copy_3 rfl ?_
  refine gc_aload_n hG (v := .ref v0) (refV_a _) dX5_copy_4 rfl rfl ?_
  refine gc_gd (fun hk => ?_)
  refine gc_get hC (ci := 4) (j := 0) (v := .int (cI s1 26 v0)) hk dX5_copy_5 rfl (by decide) in_X5 q281 (fun _ h => h) rfl ?_
  refine gc_letv (fun x2 h_ => ?_)
  refine gc_aload_n hG (v := .ref v0) (refV_a _) dX5_copy_8 rfl rfl ?_
  refine gc_gd (fun hk => ?_)
  refine gc_get hC (ci := 4) (j := 1) (v := .int (cI s1 27 v0)) hk dX5_copy_9 rfl (by decide) in_X5 q284 (fun _ h => h) rfl ?_
  refine gc_letv (fun x3 h_ => ?_)
  refine gc_aload_n hG (v := .ref v0) (refV_a _) dX5_copy_12 rfl rfl ?_
  refine gc_gd (fun hk => ?_)
  refine gc_get hC (ci := 4) (j := 2) (v := .int (cI s1 28 v0)) hk dX5_copy_13 rfl (by decide) in_X5 q288 (fun _ h => h) rfl ?_
  refine gc_letv (fun x4 h_ => ?_)
  refine gc_aload_n hG (v := .ref v0) (refV_a _) dX5_copy_16 rfl rfl ?_
  refine gc_gd (fun hk => ?_)
  refine gc_get hC (ci := 4) (j := 3) (v := .int (cI s1 29 v0)) hk dX5_copy_17 rfl (by decide) in_X5 q290 (fun _ h => h) rfl ?_
  refine gc_letv (fun x5 h_ => ?_)
  refine gc_aload_n hG (v := .ref v0) (refV_a _) dX5_copy_20 rfl rfl ?_
  refine gc_gd (fun hk => ?_)
  refine gc_get hC (ci := 4) (j := 5) (v := .int (cI s1 31 v0)) hk dX5_copy_21 rfl (by decide) in_X5 q294 (fun _ h => h) rfl ?_
  refine gc_letv (fun x6 h_ => ?_)
  refine gc_aload_n hG (v := .ref v0) (refV_a _) dX5_copy_24 rfl rfl ?_
  refine gc_gd (fun hk => ?_)
  refine gc_get hC (ci := 4) (j := 6) (v := .int (cI s1 32 v0)) hk dX5_copy_25 rfl (by decide) in_X5 q297 (fun _ h => h) rfl ?_
  refine gc_letv (fun x7 h_ => ?_)
  refine gc_callI (f := fX5_init (cn t) x2 x3 x4 x5 x6 x7 s1) (As := [.int x2, .int x3, .int x4, .int x5, .int x6, .int x7]) (rest := [.ref (cn t)]) (n := 6) (d' := 2) (b := (cn t)) hC hnL (wX5_init (gLn X) Y hl hY (cn t) x2 x3 x4 x5 x6 x7 s1) dX5_copy_28 q1048 q258 q79 q259 ⟨by decide +kernel, by decide +kernel⟩ rfl rfl (by decide) (by decide) (Nat.le_of_ble_eq_true rfl) (kn_V (fun r8 s9 => ?_)) kx_V
  refine gc_astore_n hG (refV_a _) dX5_copy_31 rfl (Nat.le_of_ble_eq_true rfl) (lv' := [(0, _), (1, _)]) rfl ?_
  refine gc_aload_n hG (v := .ref (cn t)) (refV_a _) dX5_copy_32 rfl rfl ?_
  refine gc_aload_n hG (v := .ref v0) (refV_a _) dX5_copy_33 rfl rfl ?_
  refine gc_gd (fun hk => ?_)
  refine gc_get hC (ci := 4) (j := 7) (v := .int (cI s9 33 v0)) hk dX5_copy_34 rfl (by decide) in_X5 q299 (fun _ h => h) rfl ?_
  refine gc_letv (fun x10 h_ => ?_)
  refine gc_gd (fun hz => ?_)
  refine gc_gd (fun hk => ?_)
  have pt := pt_I (s := s9) (f := 33) (a := (cn t)) (x := x10) rfl
  refine gc_put hC tyX5 tyX5_ok nmX5 hk dX5_copy_37 (ci := 4) (j := 7) (Or.inl (by decide)) rfl (by decide) in_X5 q299 (fun _ h => h) rfl (tyX5_ok 7 (by decide)) (nar_z2 hz) (fit_z2 hz) pt.1.1 pt.1.2.1 pt.1.2.2.1 pt.1.2.2.2 pt.2.1 pt.2.2.1 pt.2.2.2 ?_
  refine gc_letS (fun s11 => ?_)
  refine gc_aload_n hG (v := .ref (cn t)) (refV_a _) dX5_copy_40 rfl rfl ?_
  refine gc_aload_n hG (v := .ref v0) (refV_a _) dX5_copy_41 rfl rfl ?_
  refine gc_gd (fun hk => ?_)
  refine gc_get hC (ci := 4) (j := 8) (v := .int (cI s11 34 v0)) hk dX5_copy_42 rfl (by decide) in_X5 q303 (fun _ h => h) rfl ?_
  refine gc_letv (fun x12 h_ => ?_)
  refine gc_gd (fun hk => ?_)
  have pt := pt_I (s := s11) (f := 34) (a := (cn t)) (x := x12) rfl
  refine gc_put hC tyX5 tyX5_ok nmX5 hk dX5_copy_45 (ci := 4) (j := 8) (Or.inl (by decide)) rfl (by decide) in_X5 q303 (fun _ h => h) rfl (tyX5_ok 8 (by decide)) (fun _ => rfl) (fun _ => rfl) pt.1.1 pt.1.2.1 pt.1.2.2.1 pt.1.2.2.2 pt.2.1 pt.2.2.1 pt.2.2.2 ?_
  refine gc_letS (fun s13 => ?_)
  refine gc_aload_n hG (v := .ref v0) (refV_a _) dX5_copy_48 rfl rfl ?_
  refine gc_gd (fun hk => ?_)
  refine gc_get hC (ci := 4) (j := 9) (v := vr (cR s13 35 v0)) hk dX5_copy_49 rfl (by decide) in_X5 q307 (fun _ h => h) rfl ?_
  refine gc_letr (fun x14 h_ => ?_)
  refine gc_iconst hG (nI 0) dX5_copy_52 (by decide) ?_
  refine gc_aload_n hG (v := .ref (cn t)) (refV_a _) dX5_copy_53 rfl rfl ?_
  refine gc_gd (fun hk => ?_)
  refine gc_get hC (ci := 4) (j := 9) (v := vr (cR s13 35 (cn t))) hk dX5_copy_54 rfl (by decide) in_X5 q307 (fun _ h => h) rfl ?_
  refine gc_letr (fun x15 h_ => ?_)
  refine gc_iconst hG (nI 0) dX5_copy_57 (by decide) ?_
  refine gc_iconst hG (nI 5) dX5_copy_58 (by decide) ?_
  refine gc_rv (fun a16 h_ => ?_)
  subst h_
  refine gc_rv (fun a17 h_ => ?_)
  subst h_
  refine gc_gd (fun hk => ?_)
  refine gc_acopy hC hnL hk.1.1 hk.1.2 hk.2.1 hk.2.2.1.1 hk.2.2.1.2.1 hk.2.2.1.2.2 hk.2.2.2.1 hk.2.2.2.2 q1049 q1051 q1050 q101 dX5_copy_59 (Nat.le_of_ble_eq_true rfl) ?_
  refine gc_letS (fun s18 => ?_)
  refine gc_aload_n hG (v := .ref (cn t)) (refV_a _) dX5_copy_62 rfl rfl ?_
  refine gc_aload_n hG (v := .ref v0) (refV_a _) dX5_copy_63 rfl rfl ?_
  refine gc_gd (fun hk => ?_)
  refine gc_get hC (ci := 4) (j := 10) (v := .int (cI s18 36 v0)) hk dX5_copy_64 rfl (by decide) in_X5 q309 (fun _ h => h) rfl ?_
  refine gc_letv (fun x19 h_ => ?_)
  refine gc_gd (fun hk => ?_)
  have pt := pt_I (s := s18) (f := 36) (a := (cn t)) (x := x19) rfl
  refine gc_put hC tyX5 tyX5_ok nmX5 hk dX5_copy_67 (ci := 4) (j := 10) (Or.inl (by decide)) rfl (by decide) in_X5 q309 (fun _ h => h) rfl (tyX5_ok 10 (by decide)) (fun _ => rfl) (fun _ => rfl) pt.1.1 pt.1.2.1 pt.1.2.2.1 pt.1.2.2.2 pt.2.1 pt.2.2.1 pt.2.2.2 ?_
  refine gc_letS (fun s20 => ?_)
  refine gc_aload_n hG (v := .ref (cn t)) (refV_a _) dX5_copy_70 rfl rfl ?_
  refine gc_gd (fun hk => ?_)
  refine gc_get hC (ci := 4) (j := 11) (v := vr (cR s20 37 (cn t))) hk dX5_copy_71 rfl (by decide) in_X5 q312 (fun _ h => h) rfl ?_
  refine gc_letr (fun x21 h_ => ?_)
  refine gc_aload_n hG (v := .ref v0) (refV_a _) dX5_copy_74 rfl rfl ?_
  refine gc_gd (fun hk => ?_)
  refine gc_get hC (ci := 4) (j := 11) (v := vr (cR s20 37 v0)) hk dX5_copy_75 rfl (by decide) in_X5 q312 (fun _ h => h) rfl ?_
  refine gc_letr (fun x22 h_ => ?_)
  refine gc_rv (fun a23 h_ => ?_)
  subst h_
  refine gc_gd (fun hk => ?_)
  refine gc_callV (f := fX2_all a23 x22 s20) (As := [vr x22]) (rest := []) (n := 1) (d' := 3) (b := a23) hC hnL (wX2_all (gLn X) Y hl hY a23 x22 s20) hk (ci := 2) rfl dX5_copy_78 q1052 q821 q822 q76 q823 ⟨by decide +kernel, by decide +kernel⟩ rfl (by decide) (by decide) (Nat.le_of_ble_eq_true rfl) (kn_V (fun r24 s25 => ?_)) kx_V
  refine gc_aload_n hG (v := .ref (cn t)) (refV_a _) dX5_copy_81 rfl rfl ?_
  refine gc_gd (fun hk => ?_)
  refine gc_get hC (ci := 4) (j := 12) (v := vr (cR s25 38 (cn t))) hk dX5_copy_82 rfl (by decide) in_X5 q315 (fun _ h => h) rfl ?_
  refine gc_letr (fun x26 h_ => ?_)
  refine gc_aload_n hG (v := .ref v0) (refV_a _) dX5_copy_85 rfl rfl ?_
  refine gc_gd (fun hk => ?_)
  refine gc_get hC (ci := 4) (j := 12) (v := vr (cR s25 38 v0)) hk dX5_copy_86 rfl (by decide) in_X5 q315 (fun _ h => h) rfl ?_
  refine gc_letr (fun x27 h_ => ?_)
  refine gc_rv (fun a28 h_ => ?_)
  subst h_
  refine gc_gd (fun hk => ?_)
  refine gc_callV (f := fX2_all a28 x27 s25) (As := [vr x27]) (rest := []) (n := 1) (d' := 3) (b := a28) hC hnL (wX2_all (gLn X) Y hl hY a28 x27 s25) hk (ci := 2) rfl dX5_copy_89 q1052 q821 q822 q76 q823 ⟨by decide +kernel, by decide +kernel⟩ rfl (by decide) (by decide) (Nat.le_of_ble_eq_true rfl) (kn_V (fun r29 s30 => ?_)) kx_V
  refine gc_aload_n hG (v := .ref (cn t)) (refV_a _) dX5_copy_92 rfl rfl ?_
  refine gc_gd (fun hk => ?_)
  refine gc_get hC (ci := 4) (j := 13) (v := vr (cR s30 39 (cn t))) hk dX5_copy_93 rfl (by decide) in_X5 q318 (fun _ h => h) rfl ?_
  refine gc_letr (fun x31 h_ => ?_)
  refine gc_aload_n hG (v := .ref v0) (refV_a _) dX5_copy_96 rfl rfl ?_
  refine gc_gd (fun hk => ?_)
  refine gc_get hC (ci := 4) (j := 13) (v := vr (cR s30 39 v0)) hk dX5_copy_97 rfl (by decide) in_X5 q318 (fun _ h => h) rfl ?_
  refine gc_letr (fun x32 h_ => ?_)
  refine gc_rv (fun a33 h_ => ?_)
  subst h_
  refine gc_gd (fun hk => ?_)
  refine gc_callV (f := fX2_all a33 x32 s30) (As := [vr x32]) (rest := []) (n := 1) (d' := 3) (b := a33) hC hnL (wX2_all (gLn X) Y hl hY a33 x32 s30) hk (ci := 2) rfl dX5_copy_100 q1052 q821 q822 q76 q823 ⟨by decide +kernel, by decide +kernel⟩ rfl (by decide) (by decide) (Nat.le_of_ble_eq_true rfl) (kn_V (fun r34 s35 => ?_)) kx_V
  refine gc_aload_n hG (v := .ref (cn t)) (refV_a _) dX5_copy_103 rfl rfl ?_
  refine gc_gd (fun hk => ?_)
  refine gc_get hC (ci := 4) (j := 14) (v := vr (cR s35 40 (cn t))) hk dX5_copy_104 rfl (by decide) in_X5 q322 (fun _ h => h) rfl ?_
  refine gc_letr (fun x36 h_ => ?_)
  refine gc_aload_n hG (v := .ref v0) (refV_a _) dX5_copy_107 rfl rfl ?_
  refine gc_gd (fun hk => ?_)
  refine gc_get hC (ci := 4) (j := 14) (v := vr (cR s35 40 v0)) hk dX5_copy_108 rfl (by decide) in_X5 q322 (fun _ h => h) rfl ?_
  refine gc_letr (fun x37 h_ => ?_)
  refine gc_rv (fun a38 h_ => ?_)
  subst h_
  refine gc_gd (fun hk => ?_)
  refine gc_callV (f := fX2_all a38 x37 s35) (As := [vr x37]) (rest := []) (n := 1) (d' := 3) (b := a38) hC hnL (wX2_all (gLn X) Y hl hY a38 x37 s35) hk (ci := 2) rfl dX5_copy_111 q1052 q821 q822 q76 q823 ⟨by decide +kernel, by decide +kernel⟩ rfl (by decide) (by decide) (Nat.le_of_ble_eq_true rfl) (kn_V (fun r39 s40 => ?_)) kx_V
  refine gc_aload_n hG (v := .ref (cn t)) (refV_a _) dX5_copy_114 rfl rfl ?_
  exact gc_aret hC hrt (Or.inl ⟨_, rfl⟩) (refV_a _) rfl dX5_copy_115
def fX1_copy_L10 (v0 : Nat) (v1 : Nat) (kx : cS → Option (Option Nat × cS)) : Nat → Int32 → cS → Option (Option Nat × cS)
  | 0, _, _ => none
  | k + 1, v2, t =>
    gd (cK t v0 = 2) (
    letv (cI t 7 v0) (fun x4 =>
    if v2 < x4 then
      gd (cK t v1 = 2) (
      letv (cR t 6 v1) (fun x5 =>
      gd (cK t v0 = 2) (
      letv (cR t 6 v0) (fun x6 =>
      rv x6 (fun a7 =>
      gd (cK t a7 = 23 ∧ cIn t a7 v2) (
      letv (cR t (er (v2).toNatClampNeg) a7) (fun x8 =>
      rv x8 (fun a9 =>
      gd (cK t a9 = 5) (
      ob (fX5_copy a9 t) (fun r10 s11 =>
      rv x5 (fun a12 =>
      gd (cK s11 a12 = 23 ∧ cIn s11 a12 v2) (
      rv r10 (fun a14 =>
      gd (cK s11 a14 = 5) (letv (sR s11 (er (v2).toNatClampNeg) a12 (some a14)) (fun s13 =>
      letv (v2 + (nI 1)) (fun y15 =>
      fX1_copy_L10 v0 v1 kx k y15 s13
      )
      ))
      )
      )
      )
      )
      )
      )
      )
      )
      )
      )
      )
      )
      )
    else
      kx t
    )
    )
theorem mfX1_copy_L10 (v0 : Nat) (v1 : Nat) (kx : cS → Option (Option Nat × cS)) (hkx : ∀  (t : cS), MO t (kx t)) : ∀ (k : Nat) (v2 : Int32) (t : cS), MO t (fX1_copy_L10 v0 v1 kx k v2 t) := by
  intro k
  induction k with
  | zero => intro v2 t; exact mo_none
  | succ k ih =>
    intro v2 t
    rw [fX1_copy_L10]
    refine mo_gd ?_
    refine mo_letv (fun _ => ?_)
    refine mo_ite ?_ ?_
    · refine mo_gd ?_
      refine mo_letv (fun _ => ?_)
      refine mo_gd ?_
      refine mo_letv (fun _ => ?_)
      refine mo_rv (fun _ => ?_)
      refine mo_gd ?_
      refine mo_letv (fun _ => ?_)
      refine mo_rv (fun _ => ?_)
      refine mo_gd ?_
      refine mo_ob (by apply mfX5_copy) (fun _ _ => ?_)
      refine mo_rv (fun _ => ?_)
      refine mo_gd ?_
      refine mo_rv (fun _ => ?_)
      refine mo_gd ?_
      refine mo_letS cMo_sR (fun _ => ?_)
      refine mo_letv (fun _ => ?_)
      exact ih _ _
    · exact hkx _
set_option maxHeartbeats 4000000 in
theorem gfX1_copy_L10 {X : gCx} {Y : cY} {s0 : cS} {ad0 : Nat → Nat} (hC : cOk X Y RX1 cX1_copy 5) (hl : (gLn X).stackTraces = false) (hY : ∀ q, q < Y.2.2.2.2.size → ¬ Y.2.2.2.1 q) (hnL : gLoc X = 3) (hrt : gRet X = (some (.object "ActorTrees$World"))) (hnm : X.2.2.2.2.2.2.2.2.1.name = "copy") (hT : gTab X = []) (hmd : (gSt X).methodNamed? yX1_copy = some (gMe X)) (v0 : Nat) (v1 : Nat) (kx : cS → Option (Option Nat × cS)) (hkx : ∀  (t : cS), GC X Y (cM Y X 3 s0 ad0 rR) (kx t) t 39 [(0, .ref v0), (1, .ref v1)] []) : ∀ (k : Nat) (v2 : Int32) (t : cS), GC X Y (cM Y X 3 s0 ad0 rR) (fX1_copy_L10 v0 v1 kx k v2 t) t 10 [(0, .ref v0), (1, .ref v1), (2, .int v2)] [] := by
  have hG := hC.1
  intro k
  induction k with
  | zero => intro v2 t; exact gc_none
  | succ k ih =>
    intro v2 t
    rw [fX1_copy_L10]
    refine gc_iload_n hG dX1_copy_10 rfl rfl ?_
    refine gc_aload_n hG (v := .ref v0) (refV_a _) dX1_copy_11 rfl rfl ?_
    refine gc_gd (fun hk => ?_)
    refine gc_get hC (ci := 1) (j := 1) (v := .int (cI t 7 v0)) hk dX1_copy_12 rfl (by decide) in_X1 q162 (fun _ h => h) rfl ?_
    refine gc_letv (fun x4 h_ => ?_)
    refine gc_icmp_ge hG (tgt := 39) dX1_copy_15 (by decide) ?_ ?_
    · refine gc_aload_n hG (v := .ref v1) (refV_a _) dX1_copy_18 rfl rfl ?_
      refine gc_gd (fun hk => ?_)
      refine gc_get hC (ci := 1) (j := 0) (v := vr (cR t 6 v1)) hk dX1_copy_19 rfl (by decide) in_X1 q158 (fun _ h => h) rfl ?_
      refine gc_letr (fun x5 h_ => ?_)
      refine gc_iload_n hG dX1_copy_22 rfl rfl ?_
      refine gc_aload_n hG (v := .ref v0) (refV_a _) dX1_copy_23 rfl rfl ?_
      refine gc_gd (fun hk => ?_)
      refine gc_get hC (ci := 1) (j := 0) (v := vr (cR t 6 v0)) hk dX1_copy_24 rfl (by decide) in_X1 q158 (fun _ h => h) rfl ?_
      refine gc_letr (fun x6 h_ => ?_)
      refine gc_iload_n hG dX1_copy_27 rfl rfl ?_
      refine gc_rv (fun a7 h_ => ?_)
      subst h_
      refine gc_gd (fun hk => ?_)
      refine gc_aald hC hk.1 (by decide) (by decide) (t0 := 3) rfl hk.2 dX1_copy_28 ?_
      refine gc_letr (fun x8 h_ => ?_)
      refine gc_rv (fun a9 h_ => ?_)
      subst h_
      refine gc_gd (fun hk => ?_)
      refine gc_callV (f := fX5_copy a9 t) (As := []) (rest := [.int v2, vr x5]) (n := 0) (d' := 4) (b := a9) hC hnL (wX5_copy (gLn X) Y hl hY a9 t) hk (ci := 4) rfl dX1_copy_29 q1043 q1044 q1045 q79 q1046 ⟨by decide +kernel, by decide +kernel⟩ rfl (by decide) (by decide) (by simp [cat_vr, cat_r, cat_i, cat_n]) (kn_R (fun r10 s11 => ?_)) kx_R
      refine gc_rv (fun a12 h_ => ?_)
      subst h_
      refine gc_gd (fun hk => ?_)
      refine gc_rv (fun a14 h_ => ?_)
      subst h_
      refine gc_gd (fun hx => ?_)
      refine gc_astA hC hk.1 hx hk.2 dX1_copy_32 ?_
      refine gc_letS (fun s13 => ?_)
      refine gc_letiinc hG (c := (nI 1)) (lv' := fun y15 => [(0, .ref v0), (1, .ref v1), (2, .int y15)]) dX1_copy_33 rfl (by decide) (Nat.le_of_ble_eq_true rfl) (fun _ => rfl) (fun y15 => ?_)
      refine gc_goto hG (tgt := 10) dX1_copy_36 (by decide) ?_
      exact ih y15 s13
    · refine gc_sub [0, 1] rfl ?_
      exact hkx t
def fX1_copy (v0 : Nat) (t : cS) : Option (Option Nat × cS) :=
  letv (sN t 2 0 15) (fun s1 =>
  ob (fX1_init (cn t) s1) (fun r2 s3 =>
  fX1_copy_L10 v0 (cn t) (fun  (t16 : cS) =>
    gd (cK t16 v0 = 2) (
    letv (cI t16 7 v0) (fun x17 =>
    gd (cK t16 (cn t) = 2) (
    letv (sI t16 7 (cn t) x17) (fun s18 =>
    gd (cK s18 v0 = 2) (
    letv (cI s18 8 v0) (fun x19 =>
    gd (cK s18 (cn t) = 2) (
    letv (sI s18 8 (cn t) x19) (fun s20 =>
    gd (cK s20 v0 = 2) (
    letv (cI s20 9 v0) (fun x21 =>
    gd (cK s20 (cn t) = 2) (
    letv (sI s20 9 (cn t) x21) (fun s22 =>
    gd (cK s22 v0 = 2) (
    letv (cI s22 10 v0) (fun x23 =>
    gd (cK s22 (cn t) = 2) (
    letv (sI s22 10 (cn t) x23) (fun s24 =>
    gd (cK s24 v0 = 2) (
    letv (cI s24 11 v0) (fun x25 =>
    gd (cK s24 (cn t) = 2) (
    letv (sI s24 11 (cn t) x25) (fun s26 =>
    gd (cK s26 (cn t) = 2) (
    letv (cR s26 12 (cn t)) (fun x27 =>
    gd (cK s26 v0 = 2) (
    letv (cR s26 12 v0) (fun x28 =>
    rv x27 (fun a29 =>
    gd (cK s26 a29 = 3) (
    ob (fX2_all a29 x28 s26) (fun r30 s31 =>
    gd (cK s31 v0 = 2) (
    letv (cI s31 13 v0) (fun x32 =>
    gd (cK s31 (cn t) = 2) (
    letv (sI s31 13 (cn t) x32) (fun s33 =>
    gd (cK s33 v0 = 2) (
    letv (cR s33 14 v0) (fun x34 =>
    gd (cK s33 (cn t) = 2) (
    letv (cR s33 14 (cn t)) (fun x35 =>
    rv x34 (fun a36 =>
    rv x35 (fun a37 =>
    gd ((cK s33 a36 = 20 ∧ cK s33 a37 = 20) ∧ a36 ≠ a37 ∧ (¬ (nI 0) < 0 ∧ ¬ (nI 0) < 0 ∧ ¬ (nI 30) < 0) ∧ (nI 0).toNatClampNeg + (nI 30).toNatClampNeg ≤ cL s33 a36 ∧ (nI 0).toNatClampNeg + (nI 30).toNatClampNeg ≤ cL s33 a37) (letv (sCp s33 a36 a37 (nI 0).toNatClampNeg (nI 0).toNatClampNeg (nI 30).toNatClampNeg) (fun s38 =>
    gd (cK s38 v0 = 2) (
    letv (cI s38 15 v0) (fun x39 =>
    gd (cK s38 (cn t) = 2) (
    letv (sI s38 15 (cn t) x39) (fun s40 =>
    gd (cK s40 v0 = 2) (
    letv (cR s40 16 v0) (fun x41 =>
    gd (cK s40 (cn t) = 2) (
    letv (sR s40 16 (cn t) x41) (fun s42 =>
    gd (cK s42 v0 = 2) (
    letv (cI s42 19 v0) (fun x43 =>
    gd (cK s42 (cn t) = 2) (
    letv (sI s42 19 (cn t) x43) (fun s44 =>
    (some ((some (cn t)), s44))
    )
    )
    )
    )
    )
    )
    )
    )
    )
    )
    )
    )
    ))
    )
    )
    )
    )
    )
    )
    )
    )
    )
    )
    )
    )
    )
    )
    )
    )
    )
    )
    )
    )
    )
    )
    )
    )
    )
    )
    )
    )
    )
    )
    )
    )
    )
    )
    )
    )
    )
    ) FU (nI 0) s3
  )
  )
theorem mfX1_copy (v0 : Nat) (t : cS) : MO t (fX1_copy v0 t) := by
  unfold fX1_copy
  refine mo_letS cMo_sN (fun _ => ?_)
  refine mo_ob (by apply mfX1_init) (fun _ _ => ?_)
  refine mfX1_copy_L10 _ _ _ (fun _ => ?_) _ _ _
  refine mo_gd ?_
  refine mo_letv (fun _ => ?_)
  refine mo_gd ?_
  refine mo_letS cMo_sI (fun _ => ?_)
  refine mo_gd ?_
  refine mo_letv (fun _ => ?_)
  refine mo_gd ?_
  refine mo_letS cMo_sI (fun _ => ?_)
  refine mo_gd ?_
  refine mo_letv (fun _ => ?_)
  refine mo_gd ?_
  refine mo_letS cMo_sI (fun _ => ?_)
  refine mo_gd ?_
  refine mo_letv (fun _ => ?_)
  refine mo_gd ?_
  refine mo_letS cMo_sI (fun _ => ?_)
  refine mo_gd ?_
  refine mo_letv (fun _ => ?_)
  refine mo_gd ?_
  refine mo_letS cMo_sI (fun _ => ?_)
  refine mo_gd ?_
  refine mo_letv (fun _ => ?_)
  refine mo_gd ?_
  refine mo_letv (fun _ => ?_)
  refine mo_rv (fun _ => ?_)
  refine mo_gd ?_
  refine mo_ob (by apply mfX2_all) (fun _ _ => ?_)
  refine mo_gd ?_
  refine mo_letv (fun _ => ?_)
  refine mo_gd ?_
  refine mo_letS cMo_sI (fun _ => ?_)
  refine mo_gd ?_
  refine mo_letv (fun _ => ?_)
  refine mo_gd ?_
  refine mo_letv (fun _ => ?_)
  refine mo_rv (fun _ => ?_)
  refine mo_rv (fun _ => ?_)
  refine mo_gd ?_
  refine mo_letS cMo_sCp (fun _ => ?_)
  refine mo_gd ?_
  refine mo_letv (fun _ => ?_)
  refine mo_gd ?_
  refine mo_letS cMo_sI (fun _ => ?_)
  refine mo_gd ?_
  refine mo_letv (fun _ => ?_)
  refine mo_gd ?_
  refine mo_letS cMo_sR (fun _ => ?_)
  refine mo_gd ?_
  refine mo_letv (fun _ => ?_)
  refine mo_gd ?_
  refine mo_letS cMo_sI (fun _ => ?_)
  exact mo_some
set_option maxHeartbeats 4000000 in
theorem wX1_copy (l : Launch) (Y : cY) (hl : l.stackTraces = false) (hY : ∀ q, q < Y.2.2.2.2.size → ¬ Y.2.2.2.1 q) (v0 : Nat) (t : cS) : cFn l Y yX1_copy (ws_ yX1_copy cX1_copy 3 (some (.object "ActorTrees$World"))) 5 [.ref v0] t (fX1_copy v0 t) rR := by
  refine cmet (av := [.ref v0]) (mfX1_copy v0 t) hl hY (by decide +kernel) (lg_le (List.forall_mem_cons.mpr ⟨rfl, fun _ h => absurd h List.not_mem_nil⟩) (Nat.le_of_ble_eq_true rfl)) (lv_args_cat (List.forall_mem_cons.mpr ⟨rfl, fun _ h => absurd h List.not_mem_nil⟩)) ?_
  intro X ad0 hln hC hnL hrt hnm hT hmd
  subst hln
  have hG := hC.1
  rw [lv_args_s (List.forall_mem_cons.mpr ⟨rfl, fun _ h => absurd h List.not_mem_nil⟩)]
  show GC X Y (cM Y X 3 t ad0 rR) _ t 0 [(0, .ref v0)] []
  unfold fX1_copy
  refine gc_new hC (ci := 1) tyX1 tyX1_ok rfl in_X1 dX1_copy_0 q1041 q116 q75 (by decide +kernel) ?_
  refine gc_letS (fun s1 => ?_)
  refine gc_dup hG dX1_copy_3 rfl ?_
  refine gc_callI (f := fX1_init (cn t) s1) (As := []) (rest := [.ref (cn t)]) (n := 0) (d' := 2) (b := (cn t)) hC hnL (wX1_init (gLn X) Y hl hY (cn t) s1) dX1_copy_4 q1042 q118 q75 q119 ⟨by decide +kernel, by decide +kernel⟩ rfl rfl (by decide) (by decide) (Nat.le_of_ble_eq_true rfl) (kn_V (fun r2 s3 => ?_)) kx_V
  refine gc_astore_n hG (refV_a _) dX1_copy_7 rfl (Nat.le_of_ble_eq_true rfl) (lv' := [(0, _), (1, _)]) rfl ?_
  refine gc_iconst hG (nI 0) dX1_copy_8 (by decide) ?_
  refine gc_istore_n hG dX1_copy_9 rfl (Nat.le_of_ble_eq_true rfl) (lv' := [(0, _), (1, _), (2, _)]) rfl ?_
  refine gfX1_copy_L10 (s0 := t) (ad0 := ad0) hC hl hY hnL hrt hnm hT hmd v0 (cn t) _ (fun t16 => ?_) FU (nI 0) s3
  refine gc_aload_n hG (v := .ref (cn t)) (refV_a _) dX1_copy_39 rfl rfl ?_
  refine gc_aload_n hG (v := .ref v0) (refV_a _) dX1_copy_40 rfl rfl ?_
  refine gc_gd (fun hk => ?_)
  refine gc_get hC (ci := 1) (j := 1) (v := .int (cI t16 7 v0)) hk dX1_copy_41 rfl (by decide) in_X1 q162 (fun _ h => h) rfl ?_
  refine gc_letv (fun x17 h_ => ?_)
  refine gc_gd (fun hk => ?_)
  have pt := pt_I (s := t16) (f := 7) (a := (cn t)) (x := x17) rfl
  refine gc_put hC tyX1 tyX1_ok nmX1 hk dX1_copy_44 (ci := 1) (j := 1) (Or.inl (by decide)) rfl (by decide) in_X1 q162 (fun _ h => h) rfl (tyX1_ok 1 (by decide)) (fun _ => rfl) (fun _ => rfl) pt.1.1 pt.1.2.1 pt.1.2.2.1 pt.1.2.2.2 pt.2.1 pt.2.2.1 pt.2.2.2 ?_
  refine gc_letS (fun s18 => ?_)
  refine gc_aload_n hG (v := .ref (cn t)) (refV_a _) dX1_copy_47 rfl rfl ?_
  refine gc_aload_n hG (v := .ref v0) (refV_a _) dX1_copy_48 rfl rfl ?_
  refine gc_gd (fun hk => ?_)
  refine gc_get hC (ci := 1) (j := 2) (v := .int (cI s18 8 v0)) hk dX1_copy_49 rfl (by decide) in_X1 q166 (fun _ h => h) rfl ?_
  refine gc_letv (fun x19 h_ => ?_)
  refine gc_gd (fun hk => ?_)
  have pt := pt_I (s := s18) (f := 8) (a := (cn t)) (x := x19) rfl
  refine gc_put hC tyX1 tyX1_ok nmX1 hk dX1_copy_52 (ci := 1) (j := 2) (Or.inl (by decide)) rfl (by decide) in_X1 q166 (fun _ h => h) rfl (tyX1_ok 2 (by decide)) (fun _ => rfl) (fun _ => rfl) pt.1.1 pt.1.2.1 pt.1.2.2.1 pt.1.2.2.2 pt.2.1 pt.2.2.1 pt.2.2.2 ?_
  refine gc_letS (fun s20 => ?_)
  refine gc_aload_n hG (v := .ref (cn t)) (refV_a _) dX1_copy_55 rfl rfl ?_
  refine gc_aload_n hG (v := .ref v0) (refV_a _) dX1_copy_56 rfl rfl ?_
  refine gc_gd (fun hk => ?_)
  refine gc_get hC (ci := 1) (j := 3) (v := .int (cI s20 9 v0)) hk dX1_copy_57 rfl (by decide) in_X1 q167 (fun _ h => h) rfl ?_
  refine gc_letv (fun x21 h_ => ?_)
  refine gc_gd (fun hk => ?_)
  have pt := pt_I (s := s20) (f := 9) (a := (cn t)) (x := x21) rfl
  refine gc_put hC tyX1 tyX1_ok nmX1 hk dX1_copy_60 (ci := 1) (j := 3) (Or.inl (by decide)) rfl (by decide) in_X1 q167 (fun _ h => h) rfl (tyX1_ok 3 (by decide)) (fun _ => rfl) (fun _ => rfl) pt.1.1 pt.1.2.1 pt.1.2.2.1 pt.1.2.2.2 pt.2.1 pt.2.2.1 pt.2.2.2 ?_
  refine gc_letS (fun s22 => ?_)
  refine gc_aload_n hG (v := .ref (cn t)) (refV_a _) dX1_copy_63 rfl rfl ?_
  refine gc_aload_n hG (v := .ref v0) (refV_a _) dX1_copy_64 rfl rfl ?_
  refine gc_gd (fun hk => ?_)
  refine gc_get hC (ci := 1) (j := 4) (v := .int (cI s22 10 v0)) hk dX1_copy_65 rfl (by decide) in_X1 q169 (fun _ h => h) rfl ?_
  refine gc_letv (fun x23 h_ => ?_)
  refine gc_gd (fun hk => ?_)
  have pt := pt_I (s := s22) (f := 10) (a := (cn t)) (x := x23) rfl
  refine gc_put hC tyX1 tyX1_ok nmX1 hk dX1_copy_68 (ci := 1) (j := 4) (Or.inl (by decide)) rfl (by decide) in_X1 q169 (fun _ h => h) rfl (tyX1_ok 4 (by decide)) (fun _ => rfl) (fun _ => rfl) pt.1.1 pt.1.2.1 pt.1.2.2.1 pt.1.2.2.2 pt.2.1 pt.2.2.1 pt.2.2.2 ?_
  refine gc_letS (fun s24 => ?_)
  refine gc_aload_n hG (v := .ref (cn t)) (refV_a _) dX1_copy_71 rfl rfl ?_
  refine gc_aload_n hG (v := .ref v0) (refV_a _) dX1_copy_72 rfl rfl ?_
  refine gc_gd (fun hk => ?_)
  refine gc_get hC (ci := 1) (j := 5) (v := .int (cI s24 11 v0)) hk dX1_copy_73 rfl (by decide) in_X1 q172 (fun _ h => h) rfl ?_
  refine gc_letv (fun x25 h_ => ?_)
  refine gc_gd (fun hk => ?_)
  have pt := pt_I (s := s24) (f := 11) (a := (cn t)) (x := x25) rfl
  refine gc_put hC tyX1 tyX1_ok nmX1 hk dX1_copy_76 (ci := 1) (j := 5) (Or.inl (by decide)) rfl (by decide) in_X1 q172 (fun _ h => h) rfl (tyX1_ok 5 (by decide)) (fun _ => rfl) (fun _ => rfl) pt.1.1 pt.1.2.1 pt.1.2.2.1 pt.1.2.2.2 pt.2.1 pt.2.2.1 pt.2.2.2 ?_
  refine gc_letS (fun s26 => ?_)
  refine gc_aload_n hG (v := .ref (cn t)) (refV_a _) dX1_copy_79 rfl rfl ?_
  refine gc_gd (fun hk => ?_)
  refine gc_get hC (ci := 1) (j := 6) (v := vr (cR s26 12 (cn t))) hk dX1_copy_80 rfl (by decide) in_X1 q174 (fun _ h => h) rfl ?_
  refine gc_letr (fun x27 h_ => ?_)
  refine gc_aload_n hG (v := .ref v0) (refV_a _) dX1_copy_83 rfl rfl ?_
  refine gc_gd (fun hk => ?_)
  refine gc_get hC (ci := 1) (j := 6) (v := vr (cR s26 12 v0)) hk dX1_copy_84 rfl (by decide) in_X1 q174 (fun _ h => h) rfl ?_
  refine gc_letr (fun x28 h_ => ?_)
  refine gc_rv (fun a29 h_ => ?_)
  subst h_
  refine gc_gd (fun hk => ?_)
  refine gc_callV (f := fX2_all a29 x28 s26) (As := [vr x28]) (rest := []) (n := 1) (d' := 3) (b := a29) hC hnL (wX2_all (gLn X) Y hl hY a29 x28 s26) hk (ci := 2) rfl dX1_copy_87 q1053 q821 q822 q76 q823 ⟨by decide +kernel, by decide +kernel⟩ rfl (by decide) (by decide) (Nat.le_of_ble_eq_true rfl) (kn_V (fun r30 s31 => ?_)) kx_V
  refine gc_aload_n hG (v := .ref (cn t)) (refV_a _) dX1_copy_90 rfl rfl ?_
  refine gc_aload_n hG (v := .ref v0) (refV_a _) dX1_copy_91 rfl rfl ?_
  refine gc_gd (fun hk => ?_)
  refine gc_get hC (ci := 1) (j := 7) (v := .int (cI s31 13 v0)) hk dX1_copy_92 rfl (by decide) in_X1 q176 (fun _ h => h) rfl ?_
  refine gc_letv (fun x32 h_ => ?_)
  refine gc_gd (fun hk => ?_)
  have pt := pt_I (s := s31) (f := 13) (a := (cn t)) (x := x32) rfl
  refine gc_put hC tyX1 tyX1_ok nmX1 hk dX1_copy_95 (ci := 1) (j := 7) (Or.inl (by decide)) rfl (by decide) in_X1 q176 (fun _ h => h) rfl (tyX1_ok 7 (by decide)) (fun _ => rfl) (fun _ => rfl) pt.1.1 pt.1.2.1 pt.1.2.2.1 pt.1.2.2.2 pt.2.1 pt.2.2.1 pt.2.2.2 ?_
  refine gc_letS (fun s33 => ?_)
  refine gc_aload_n hG (v := .ref v0) (refV_a _) dX1_copy_98 rfl rfl ?_
  refine gc_gd (fun hk => ?_)
  refine gc_get hC (ci := 1) (j := 8) (v := vr (cR s33 14 v0)) hk dX1_copy_99 rfl (by decide) in_X1 q178 (fun _ h => h) rfl ?_
  refine gc_letr (fun x34 h_ => ?_)
  refine gc_iconst hG (nI 0) dX1_copy_102 (by decide) ?_
  refine gc_aload_n hG (v := .ref (cn t)) (refV_a _) dX1_copy_103 rfl rfl ?_
  refine gc_gd (fun hk => ?_)
  refine gc_get hC (ci := 1) (j := 8) (v := vr (cR s33 14 (cn t))) hk dX1_copy_104 rfl (by decide) in_X1 q178 (fun _ h => h) rfl ?_
  refine gc_letr (fun x35 h_ => ?_)
  refine gc_iconst hG (nI 0) dX1_copy_107 (by decide) ?_
  refine gc_bipush hG (nI 30) dX1_copy_108 (by decide) ?_
  refine gc_rv (fun a36 h_ => ?_)
  subst h_
  refine gc_rv (fun a37 h_ => ?_)
  subst h_
  refine gc_gd (fun hk => ?_)
  refine gc_acopy hC hnL hk.1.1 hk.1.2 hk.2.1 hk.2.2.1.1 hk.2.2.1.2.1 hk.2.2.1.2.2 hk.2.2.2.1 hk.2.2.2.2 q1054 q1051 q1050 q101 dX1_copy_110 (Nat.le_of_ble_eq_true rfl) ?_
  refine gc_letS (fun s38 => ?_)
  refine gc_aload_n hG (v := .ref (cn t)) (refV_a _) dX1_copy_113 rfl rfl ?_
  refine gc_aload_n hG (v := .ref v0) (refV_a _) dX1_copy_114 rfl rfl ?_
  refine gc_gd (fun hk => ?_)
  refine gc_get hC (ci := 1) (j := 9) (v := .int (cI s38 15 v0)) hk dX1_copy_115 rfl (by decide) in_X1 q180 (fun _ h => h) rfl ?_
  refine gc_letv (fun x39 h_ => ?_)
  refine gc_gd (fun hk => ?_)
  have pt := pt_I (s := s38) (f := 15) (a := (cn t)) (x := x39) rfl
  refine gc_put hC tyX1 tyX1_ok nmX1 hk dX1_copy_118 (ci := 1) (j := 9) (Or.inl (by decide)) rfl (by decide) in_X1 q180 (fun _ h => h) rfl (tyX1_ok 9 (by decide)) (fun _ => rfl) (fun _ => rfl) pt.1.1 pt.1.2.1 pt.1.2.2.1 pt.1.2.2.2 pt.2.1 pt.2.2.1 pt.2.2.2 ?_
  refine gc_letS (fun s40 => ?_)
  refine gc_aload_n hG (v := .ref (cn t)) (refV_a _) dX1_copy_121 rfl rfl ?_
  refine gc_aload_n hG (v := .ref v0) (refV_a _) dX1_copy_122 rfl rfl ?_
  refine gc_gd (fun hk => ?_)
  refine gc_get hC (ci := 1) (j := 10) (v := vr (cR s40 16 v0)) hk dX1_copy_123 rfl (by decide) in_X1 q182 (fun _ h => h) rfl ?_
  refine gc_letr (fun x41 h_ => ?_)
  refine gc_gd (fun hk => ?_)
  have pt := pt_R (s := s40) (f := 16) (a := (cn t)) (x := x41) rfl
  refine gc_put hC tyX1 tyX1_ok nmX1 hk dX1_copy_126 (ci := 1) (j := 10) (Or.inl (by decide)) rfl (by decide) in_X1 q182 (fun _ h => h) rfl (tyX1_ok 10 (by decide)) (nar_o x41) (fit_o x41) pt.1.1 pt.1.2.1 pt.1.2.2.1 pt.1.2.2.2 pt.2.1 pt.2.2.1 pt.2.2.2 ?_
  refine gc_letS (fun s42 => ?_)
  refine gc_aload_n hG (v := .ref (cn t)) (refV_a _) dX1_copy_129 rfl rfl ?_
  refine gc_aload_n hG (v := .ref v0) (refV_a _) dX1_copy_130 rfl rfl ?_
  refine gc_gd (fun hk => ?_)
  refine gc_get hC (ci := 1) (j := 13) (v := .int (cI s42 19 v0)) hk dX1_copy_131 rfl (by decide) in_X1 q188 (fun _ h => h) rfl ?_
  refine gc_letv (fun x43 h_ => ?_)
  refine gc_gd (fun hk => ?_)
  have pt := pt_I (s := s42) (f := 19) (a := (cn t)) (x := x43) rfl
  refine gc_put hC tyX1 tyX1_ok nmX1 hk dX1_copy_134 (ci := 1) (j := 13) (Or.inl (by decide)) rfl (by decide) in_X1 q188 (fun _ h => h) rfl (tyX1_ok 13 (by decide)) (fun _ => rfl) (fun _ => rfl) pt.1.1 pt.1.2.1 pt.1.2.2.1 pt.1.2.2.2 pt.2.1 pt.2.2.1 pt.2.2.2 ?_
  refine gc_letS (fun s44 => ?_)
  refine gc_aload_n hG (v := .ref (cn t)) (refV_a _) dX1_copy_137 rfl rfl ?_
  exact gc_aret hC hrt (Or.inl ⟨_, rfl⟩) (refV_a _) rfl dX1_copy_138
def fX0_dry (v0 : Nat) (v1 : Int32) (v2 : Int32) (t : cS) : Option (Int32 × cS) :=
  ob (fX0_within v1 (nI 1) (nI 200) t) (fun r1 s2 =>
  if r1 = 0 then
    (some ((-2000000000 : Int32), s2))
  else
    ob (fX0_within v2 (nI 0) (nI 5) s2) (fun r3 s4 =>
    jn (fun  (t5 : cS) =>
      gd (cK t5 v0 = 1) (
      letv (cR t5 1 v0) (fun x7 =>
      rv x7 (fun a8 =>
      gd (cK t5 a8 = 2) (
      ob (fX1_copy a8 t5) (fun r9 s10 =>
      rv r9 (fun a11 =>
      gd (cK s10 a11 = 2) (
      ob (fX1_runs a11 v1 s10) (fun r12 s13 =>
      gsw v2 [
        ((nI 0), 
          (some (r12, s13))
        ),
        ((nI 1), 
          gd (cK s13 a11 = 2) (
          letv (cI s13 19 a11) (fun x14 =>
          (some (x14, s13))
          )
          )
        ),
        ((nI 2), 
          gd (cK s13 a11 = 2) (
          ob (fX1_liveOnes a11 s13) (fun r15 s16 =>
          (some (r15, s16))
          )
          )
        ),
        ((nI 3), 
          gd (cK s13 a11 = 2) (
          letv (cI s13 11 a11) (fun x17 =>
          (some (x17, s13))
          )
          )
        ),
        ((nI 4), 
          gd (cK s13 a11 = 2) (
          letv (cI s13 9 a11) (fun x18 =>
          (some (x18, s13))
          )
          )
        ),
        ((nI 5), 
          gd (cK s13 a11 = 2) (
          letv (cI s13 10 a11) (fun x19 =>
          (some (x19, s13))
          )
          )
        )
      ] (
        gd (cK s13 a11 = 2) (
        letv (cR s13 6 a11) (fun x20 =>
        rv x20 (fun a21 =>
        gd (cK s13 a21 = 23 ∧ cIn s13 a21 (v2 - (nI 10))) (
        letv (cR s13 (er ((v2 - (nI 10))).toNatClampNeg) a21) (fun x22 =>
        rv x22 (fun a23 =>
        gd (cK s13 a23 = 5) (
        letv (cI s13 34 a23) (fun x24 =>
        (some (x24, s13))
        )
        )
        )
        )
        )
        )
        )
        )
      )
      )
      )
      )
      )
      )
      )
      )
      )
      ) (fun (j6 : cS → Option (Int32 × cS)) =>
      if r3 = 0 then
        gd (cK s4 v0 = 1) (
        ob (fX0_isActor v0 (v2 - (nI 10)) s4) (fun r25 s26 =>
        if r25 = 0 then
          (some ((-2000000000 : Int32), s26))
        else
          j6 s26
        )
        )
      else
        j6 s4
      )
    )
  )
theorem mfX0_dry (v0 : Nat) (v1 : Int32) (v2 : Int32) (t : cS) : MO t (fX0_dry v0 v1 v2 t) := by
  unfold fX0_dry
  refine mo_ob (by apply mfX0_within) (fun _ _ => ?_)
  refine mo_ite ?_ ?_
  · exact mo_some
  · refine mo_ob (by apply mfX0_within) (fun _ _ => ?_)
    refine mo_jn (fun j_ => ∀ ( t5 : cS ), MO t5 (j_ t5)) (fun t5 => ?_) (fun j6 hj6 => ?_)
    · refine mo_gd ?_
      refine mo_letv (fun _ => ?_)
      refine mo_rv (fun _ => ?_)
      refine mo_gd ?_
      refine mo_ob (by apply mfX1_copy) (fun _ _ => ?_)
      refine mo_rv (fun _ => ?_)
      refine mo_gd ?_
      refine mo_ob (by apply mfX1_runs) (fun _ _ => ?_)
      refine mo_sw (List.forall_mem_cons.mpr ⟨?_, List.forall_mem_cons.mpr ⟨?_, List.forall_mem_cons.mpr ⟨?_, List.forall_mem_cons.mpr ⟨?_, List.forall_mem_cons.mpr ⟨?_, List.forall_mem_cons.mpr ⟨?_, fun _ h => absurd h List.not_mem_nil⟩⟩⟩⟩⟩⟩) ?_
      · dsimp only
        exact mo_some
      · dsimp only
        refine mo_gd ?_
        refine mo_letv (fun _ => ?_)
        exact mo_some
      · dsimp only
        refine mo_gd ?_
        refine mo_ob (by apply mfX1_liveOnes) (fun _ _ => ?_)
        exact mo_some
      · dsimp only
        refine mo_gd ?_
        refine mo_letv (fun _ => ?_)
        exact mo_some
      · dsimp only
        refine mo_gd ?_
        refine mo_letv (fun _ => ?_)
        exact mo_some
      · dsimp only
        refine mo_gd ?_
        refine mo_letv (fun _ => ?_)
        exact mo_some
      · refine mo_gd ?_
        refine mo_letv (fun _ => ?_)
        refine mo_rv (fun _ => ?_)
        refine mo_gd ?_
        refine mo_letv (fun _ => ?_)
        refine mo_rv (fun _ => ?_)
        refine mo_gd ?_
        refine mo_letv (fun _ => ?_)
        exact mo_some
    · refine mo_ite ?_ ?_
      · refine mo_gd ?_
        refine mo_ob (by apply mfX0_isActor) (fun _ _ => ?_)
        refine mo_ite ?_ ?_
        · exact mo_some
        · exact hj6 _
      · exact hj6 _
set_option maxHeartbeats 4000000 in
theorem wX0_dry (l : Launch) (Y : cY) (hl : l.stackTraces = false) (hY : ∀ q, q < Y.2.2.2.2.size → ¬ Y.2.2.2.1 q) (v0 : Nat) (v1 : Int32) (v2 : Int32) (t : cS) : cFn l Y yX0_dry (ws_ yX0_dry cX0_dry 5 (some .int)) 39 [.ref v0, .int v1, .int v2] t (fX0_dry v0 v1 v2 t) rI := by
  refine cmet (av := [.ref v0, .int v1, .int v2]) (mfX0_dry v0 v1 v2 t) hl hY (by decide +kernel) (lg_le (List.forall_mem_cons.mpr ⟨rfl, List.forall_mem_cons.mpr ⟨rfl, List.forall_mem_cons.mpr ⟨rfl, fun _ h => absurd h List.not_mem_nil⟩⟩⟩) (Nat.le_of_ble_eq_true rfl)) (lv_args_cat (List.forall_mem_cons.mpr ⟨rfl, List.forall_mem_cons.mpr ⟨rfl, List.forall_mem_cons.mpr ⟨rfl, fun _ h => absurd h List.not_mem_nil⟩⟩⟩)) ?_
  intro X ad0 hln hC hnL hrt hnm hT hmd
  subst hln
  have hG := hC.1
  rw [lv_args_s (List.forall_mem_cons.mpr ⟨rfl, List.forall_mem_cons.mpr ⟨rfl, List.forall_mem_cons.mpr ⟨rfl, fun _ h => absurd h List.not_mem_nil⟩⟩⟩)]
  show GC X Y (cM Y X 5 t ad0 rI) _ t 0 [(0, .ref v0), (1, .int v1), (2, .int v2)] []
  unfold fX0_dry
  refine gc_iload_n hG dX0_dry_0 rfl rfl ?_
  refine gc_iconst hG (nI 1) dX0_dry_1 (by decide) ?_
  refine gc_sipush hG (nI 200) dX0_dry_2 (by decide) ?_
  refine gc_callS (f := fX0_within v1 (nI 1) (nI 200) t) (As := [.int v1, .int (nI 1), .int (nI 200)]) (rest := []) (n := 3) (d' := 1) hC hnL (wX0_within (gLn X) Y hl hY v1 (nI 1) (nI 200) t) dX0_dry_5 q370 q250 q74 q251 ⟨by decide +kernel, by decide +kernel⟩ rfl (by decide) (by decide) (Nat.le_of_ble_eq_true rfl) (kn_I (fun r1 s2 => ?_)) kx_I
  refine gc_if_eq hG (tgt := 31) dX0_dry_8 (by decide) ?_ ?_
  · refine gc_ldc hG (-2000000000 : Int32) dX0_dry_31 q489 ?_
    exact gc_iret hC hrt rfl rfl dX0_dry_33
  · refine gc_iload_n hG dX0_dry_11 rfl rfl ?_
    refine gc_iconst hG (nI 0) dX0_dry_12 (by decide) ?_
    refine gc_iconst hG (nI 5) dX0_dry_13 (by decide) ?_
    refine gc_callS (f := fX0_within v2 (nI 0) (nI 5) s2) (As := [.int v2, .int (nI 0), .int (nI 5)]) (rest := []) (n := 3) (d' := 1) hC hnL (wX0_within (gLn X) Y hl hY v2 (nI 0) (nI 5) s2) dX0_dry_14 q370 q250 q74 q251 ⟨by decide +kernel, by decide +kernel⟩ rfl (by decide) (by decide) (Nat.le_of_ble_eq_true rfl) (kn_I (fun r3 s4 => ?_)) kx_I
    refine gc_jn (fun j_ => ∀  (t5 : cS), GC X Y (cM Y X 5 t ad0 rI) (j_ t5) t5 34 [(0, .ref v0), (1, .int v1), (2, .int v2)] []) (fun t5 => ?_) (fun j6 hj6 => ?_)
    · refine gc_aload_n hG (v := .ref v0) (refV_a _) dX0_dry_34 rfl rfl ?_
      refine gc_gd (fun hk => ?_)
      refine gc_get hC (ci := 0) (j := 0) (v := vr (cR t5 1 v0)) hk dX0_dry_35 rfl (by decide) in_X0 q224 (fun _ h => h) rfl ?_
      refine gc_letr (fun x7 h_ => ?_)
      refine gc_rv (fun a8 h_ => ?_)
      subst h_
      refine gc_gd (fun hk => ?_)
      refine gc_callV (f := fX1_copy a8 t5) (As := []) (rest := []) (n := 0) (d' := 5) (b := a8) hC hnL (wX1_copy (gLn X) Y hl hY a8 t5) hk (ci := 1) rfl dX0_dry_38 q1037 q1038 q1039 q75 q1040 ⟨by decide +kernel, by decide +kernel⟩ rfl (by decide) (by decide) (Nat.le_of_ble_eq_true rfl) (kn_R (fun r9 s10 => ?_)) kx_R
      refine gc_astore_n hG (refV_x _) dX0_dry_41 rfl (Nat.le_of_ble_eq_true rfl) (lv' := [(0, _), (1, _), (2, _), (3, _)]) rfl ?_
      refine gc_aload_n hG (v := vr r9) (refV_x _) dX0_dry_42 rfl rfl ?_
      refine gc_iload_n hG dX0_dry_43 rfl rfl ?_
      refine gc_rv (fun a11 h_ => ?_)
      subst h_
      refine gc_gd (fun hk => ?_)
      refine gc_callV (f := fX1_runs a11 v1 s10) (As := [.int v1]) (rest := []) (n := 1) (d' := 38) (b := a11) hC hnL (wX1_runs (gLn X) Y hl hY a11 v1 s10) hk (ci := 1) rfl dX0_dry_44 q690 q691 q692 q75 q693 ⟨by decide +kernel, by decide +kernel⟩ rfl (by decide) (by decide) (Nat.le_of_ble_eq_true rfl) (kn_I (fun r12 s13 => ?_)) kx_I
      refine gc_istore hG dX0_dry_47 (Nat.le_of_ble_eq_true rfl) (lv' := [(0, _), (1, _), (2, _), (3, _), (4, _)]) rfl ?_
      refine gc_iload_n hG dX0_dry_49 rfl rfl ?_
      refine gc_tsw hG (dt := 116) dX0_dry_50 (by decide) (by decide) ⟨⟨by decide, 88, by decide, ?_⟩, ⟨by decide, 91, by decide, ?_⟩, ⟨by decide, 96, by decide, ?_⟩, ⟨by decide, 101, by decide, ?_⟩, ⟨by decide, 106, by decide, ?_⟩, ⟨by decide, 111, by decide, ?_⟩, trivial⟩ ?_
      · refine gc_iload hG dX0_dry_88 rfl ?_
        exact gc_iret hC hrt rfl rfl dX0_dry_90
      · refine gc_aload_n hG (v := .ref a11) (refV_a _) dX0_dry_91 rfl rfl ?_
        refine gc_gd (fun hk => ?_)
        refine gc_getN hC (ci := 1) (j := 13) (v := .int (cI s13 19 a11)) hk dX0_dry_92 rfl (by decide) in_X1 q189 (fun _ h => h) rfl ?_
        refine gc_letv (fun x14 h_ => ?_)
        exact gc_iret hC hrt rfl rfl dX0_dry_95
      · refine gc_aload_n hG (v := .ref a11) (refV_a _) dX0_dry_96 rfl rfl ?_
        refine gc_gd (fun hk => ?_)
        refine gc_callV (f := fX1_liveOnes a11 s13) (As := []) (rest := []) (n := 0) (d' := 1) (b := a11) hC hnL (wX1_liveOnes (gLn X) Y hl hY a11 s13) hk (ci := 1) rfl dX0_dry_97 q626 q627 q628 q75 q629 ⟨by decide +kernel, by decide +kernel⟩ rfl (by decide) (by decide) (Nat.le_of_ble_eq_true rfl) (kn_I (fun r15 s16 => ?_)) kx_I
        exact gc_iret hC hrt rfl rfl dX0_dry_100
      · refine gc_aload_n hG (v := .ref a11) (refV_a _) dX0_dry_101 rfl rfl ?_
        refine gc_gd (fun hk => ?_)
        refine gc_getN hC (ci := 1) (j := 5) (v := .int (cI s13 11 a11)) hk dX0_dry_102 rfl (by decide) in_X1 q173 (fun _ h => h) rfl ?_
        refine gc_letv (fun x17 h_ => ?_)
        exact gc_iret hC hrt rfl rfl dX0_dry_105
      · refine gc_aload_n hG (v := .ref a11) (refV_a _) dX0_dry_106 rfl rfl ?_
        refine gc_gd (fun hk => ?_)
        refine gc_getN hC (ci := 1) (j := 3) (v := .int (cI s13 9 a11)) hk dX0_dry_107 rfl (by decide) in_X1 q168 (fun _ h => h) rfl ?_
        refine gc_letv (fun x18 h_ => ?_)
        exact gc_iret hC hrt rfl rfl dX0_dry_110
      · refine gc_aload_n hG (v := .ref a11) (refV_a _) dX0_dry_111 rfl rfl ?_
        refine gc_gd (fun hk => ?_)
        refine gc_getN hC (ci := 1) (j := 4) (v := .int (cI s13 10 a11)) hk dX0_dry_112 rfl (by decide) in_X1 q170 (fun _ h => h) rfl ?_
        refine gc_letv (fun x19 h_ => ?_)
        exact gc_iret hC hrt rfl rfl dX0_dry_115
      · refine gc_aload_n hG (v := .ref a11) (refV_a _) dX0_dry_116 rfl rfl ?_
        refine gc_gd (fun hk => ?_)
        refine gc_getN hC (ci := 1) (j := 0) (v := vr (cR s13 6 a11)) hk dX0_dry_117 rfl (by decide) in_X1 q160 (fun _ h => h) rfl ?_
        refine gc_letr (fun x20 h_ => ?_)
        refine gc_iload_n hG dX0_dry_120 rfl rfl ?_
        refine gc_bipush hG (nI 10) dX0_dry_121 (by decide) ?_
        refine gc_isub hG dX0_dry_123 ?_
        refine gc_rv (fun a21 h_ => ?_)
        subst h_
        refine gc_gd (fun hk => ?_)
        refine gc_aald hC hk.1 (by decide) (by decide) (t0 := 3) rfl hk.2 dX0_dry_124 ?_
        refine gc_letr (fun x22 h_ => ?_)
        refine gc_rv (fun a23 h_ => ?_)
        subst h_
        refine gc_gd (fun hk => ?_)
        refine gc_getN hC (ci := 4) (j := 8) (v := .int (cI s13 34 a23)) hk dX0_dry_125 rfl (by decide) in_X5 q305 (fun _ h => h) rfl ?_
        refine gc_letv (fun x24 h_ => ?_)
        exact gc_iret hC hrt rfl rfl dX0_dry_128
    · refine gc_if_ne hG (tgt := 34) dX0_dry_17 (by decide) ?_ ?_
      · refine gc_aload_n hG (v := .ref v0) (refV_a _) dX0_dry_20 rfl rfl ?_
        refine gc_iload_n hG dX0_dry_21 rfl rfl ?_
        refine gc_bipush hG (nI 10) dX0_dry_22 (by decide) ?_
        refine gc_isub hG dX0_dry_24 ?_
        refine gc_gd (fun hk => ?_)
        refine gc_callV (f := fX0_isActor v0 (v2 - (nI 10)) s4) (As := [.int (v2 - (nI 10))]) (rest := []) (n := 1) (d' := 1) (b := v0) hC hnL (wX0_isActor (gLn X) Y hl hY v0 (v2 - (nI 10)) s4) hk (ci := 0) rfl dX0_dry_25 q366 q368 qs0 q74 q369 ⟨by decide +kernel, by decide +kernel⟩ rfl (by decide) (by decide) (Nat.le_of_ble_eq_true rfl) (kn_I (fun r25 s26 => ?_)) kx_I
        refine gc_if_ne hG (tgt := 34) dX0_dry_28 (by decide) ?_ ?_
        · refine gc_ldc hG (-2000000000 : Int32) dX0_dry_31 q489 ?_
          exact gc_iret hC hrt rfl rfl dX0_dry_33
        · exact hj6 s26
      · exact hj6 s4
def fX0_first_L10 (v1 : Option Nat) (kx : cS → Option (Int32 × cS)) : Nat → Int32 → cS → Option (Int32 × cS)
  | 0, _, _ => none
  | k + 1, v2, t =>
    if (nI 200) < v2 then
      kx t
    else
      rv v1 (fun a5 =>
      gd (cK t a5 = 2) (
      ob (fX1_steps a5 t) (fun r6 s7 =>
      if r6 = 0 then
        kx s7
      else
        gd (cK s7 a5 = 2) (
        letv (cI s7 17 a5) (fun x8 =>
        if 0 < x8 then
          (some (v2, s7))
        else
          letv (v2 + (nI 1)) (fun y9 =>
          fX0_first_L10 v1 kx k y9 s7
          )
        )
        )
      )
      )
      )
theorem mfX0_first_L10 (v1 : Option Nat) (kx : cS → Option (Int32 × cS)) (hkx : ∀  (t : cS), MO t (kx t)) : ∀ (k : Nat) (v2 : Int32) (t : cS), MO t (fX0_first_L10 v1 kx k v2 t) := by
  intro k
  induction k with
  | zero => intro v2 t; exact mo_none
  | succ k ih =>
    intro v2 t
    rw [fX0_first_L10]
    refine mo_ite ?_ ?_
    · exact hkx _
    · refine mo_rv (fun _ => ?_)
      refine mo_gd ?_
      refine mo_ob (by apply mfX1_steps) (fun _ _ => ?_)
      refine mo_ite ?_ ?_
      · exact hkx _
      · refine mo_gd ?_
        refine mo_letv (fun _ => ?_)
        refine mo_ite ?_ ?_
        · exact mo_some
        · refine mo_letv (fun _ => ?_)
          exact ih _ _
set_option maxHeartbeats 4000000 in
theorem gfX0_first_L10 {X : gCx} {Y : cY} {s0 : cS} {ad0 : Nat → Nat} (hC : cOk X Y RX0 cX0_first 38) (hl : (gLn X).stackTraces = false) (hY : ∀ q, q < Y.2.2.2.2.size → ¬ Y.2.2.2.1 q) (hnL : gLoc X = 3) (hrt : gRet X = (some .int)) (hnm : X.2.2.2.2.2.2.2.2.1.name = "first") (hT : gTab X = []) (hmd : (gSt X).methodNamed? yX0_first = some (gMe X)) (v1 : Option Nat) (kx : cS → Option (Int32 × cS)) (hkx : ∀  (t : cS), GC X Y (cM Y X 3 s0 ad0 rI) (kx t) t 39 [] []) : ∀ (k : Nat) (v2 : Int32) (t : cS), GC X Y (cM Y X 3 s0 ad0 rI) (fX0_first_L10 v1 kx k v2 t) t 10 [(1, vr v1), (2, .int v2)] [] := by
  have hG := hC.1
  intro k
  induction k with
  | zero => intro v2 t; exact gc_none
  | succ k ih =>
    intro v2 t
    rw [fX0_first_L10]
    refine gc_iload_n hG dX0_first_10 rfl rfl ?_
    refine gc_sipush hG (nI 200) dX0_first_11 (by decide) ?_
    refine gc_icmp_gt hG (tgt := 39) dX0_first_14 (by decide) ?_ ?_
    · refine gc_sub [] rfl ?_
      exact hkx t
    · refine gc_aload_n hG (v := vr v1) (refV_x _) dX0_first_17 rfl rfl ?_
      refine gc_rv (fun a5 h_ => ?_)
      subst h_
      refine gc_gd (fun hk => ?_)
      refine gc_callV (f := fX1_steps a5 t) (As := []) (rest := []) (n := 0) (d' := 37) (b := a5) hC hnL (wX1_steps (gLn X) Y hl hY a5 t) hk (ci := 1) rfl dX0_first_18 q1059 q711 q712 q75 q713 ⟨by decide +kernel, by decide +kernel⟩ rfl (by decide) (by decide) (Nat.le_of_ble_eq_true rfl) (kn_I (fun r6 s7 => ?_)) kx_I
      refine gc_if_eq hG (tgt := 39) dX0_first_21 (by decide) ?_ ?_
      · refine gc_sub [] rfl ?_
        exact hkx s7
      · refine gc_aload_n hG (v := .ref a5) (refV_a _) dX0_first_24 rfl rfl ?_
        refine gc_gd (fun hk => ?_)
        refine gc_getN hC (ci := 1) (j := 11) (v := .int (cI s7 17 a5)) hk dX0_first_25 rfl (by decide) in_X1 q185 (fun _ h => h) rfl ?_
        refine gc_letv (fun x8 h_ => ?_)
        refine gc_if_le hG (tgt := 33) dX0_first_28 (by decide) ?_ ?_
        · refine gc_iload_n hG dX0_first_31 rfl rfl ?_
          exact gc_iret hC hrt rfl rfl dX0_first_32
        · refine gc_letiinc hG (c := (nI 1)) (lv' := fun y9 => [(1, .ref a5), (2, .int y9)]) dX0_first_33 rfl (by decide) (Nat.le_of_ble_eq_true rfl) (fun _ => rfl) (fun y9 => ?_)
          refine gc_goto hG (tgt := 10) dX0_first_36 (by decide) ?_
          exact ih y9 s7
def fX0_first (v0 : Nat) (t : cS) : Option (Int32 × cS) :=
  gd (cK t v0 = 1) (
  letv (cR t 1 v0) (fun x1 =>
  rv x1 (fun a2 =>
  gd (cK t a2 = 2) (
  ob (fX1_copy a2 t) (fun r3 s4 =>
  fX0_first_L10 r3 (fun  (t10 : cS) =>
    (some ((-2 : Int32), t10))
    ) FU (nI 1) s4
  )
  )
  )
  )
  )
theorem mfX0_first (v0 : Nat) (t : cS) : MO t (fX0_first v0 t) := by
  unfold fX0_first
  refine mo_gd ?_
  refine mo_letv (fun _ => ?_)
  refine mo_rv (fun _ => ?_)
  refine mo_gd ?_
  refine mo_ob (by apply mfX1_copy) (fun _ _ => ?_)
  refine mfX0_first_L10 _ _ (fun _ => ?_) _ _ _
  exact mo_some
set_option maxHeartbeats 4000000 in
theorem wX0_first (l : Launch) (Y : cY) (hl : l.stackTraces = false) (hY : ∀ q, q < Y.2.2.2.2.size → ¬ Y.2.2.2.1 q) (v0 : Nat) (t : cS) : cFn l Y yX0_first (ws_ yX0_first cX0_first 3 (some .int)) 38 [.ref v0] t (fX0_first v0 t) rI := by
  refine cmet (av := [.ref v0]) (mfX0_first v0 t) hl hY (by decide +kernel) (lg_le (List.forall_mem_cons.mpr ⟨rfl, fun _ h => absurd h List.not_mem_nil⟩) (Nat.le_of_ble_eq_true rfl)) (lv_args_cat (List.forall_mem_cons.mpr ⟨rfl, fun _ h => absurd h List.not_mem_nil⟩)) ?_
  intro X ad0 hln hC hnL hrt hnm hT hmd
  subst hln
  have hG := hC.1
  rw [lv_args_s (List.forall_mem_cons.mpr ⟨rfl, fun _ h => absurd h List.not_mem_nil⟩)]
  show GC X Y (cM Y X 3 t ad0 rI) _ t 0 [(0, .ref v0)] []
  unfold fX0_first
  refine gc_aload_n hG (v := .ref v0) (refV_a _) dX0_first_0 rfl rfl ?_
  refine gc_gd (fun hk => ?_)
  refine gc_get hC (ci := 0) (j := 0) (v := vr (cR t 1 v0)) hk dX0_first_1 rfl (by decide) in_X0 q224 (fun _ h => h) rfl ?_
  refine gc_letr (fun x1 h_ => ?_)
  refine gc_rv (fun a2 h_ => ?_)
  subst h_
  refine gc_gd (fun hk => ?_)
  refine gc_callV (f := fX1_copy a2 t) (As := []) (rest := []) (n := 0) (d' := 5) (b := a2) hC hnL (wX1_copy (gLn X) Y hl hY a2 t) hk (ci := 1) rfl dX0_first_4 q1037 q1038 q1039 q75 q1040 ⟨by decide +kernel, by decide +kernel⟩ rfl (by decide) (by decide) (Nat.le_of_ble_eq_true rfl) (kn_R (fun r3 s4 => ?_)) kx_R
  refine gc_astore_n hG (refV_x _) dX0_first_7 rfl (Nat.le_of_ble_eq_true rfl) (lv' := [(0, _), (1, _)]) rfl ?_
  refine gc_iconst hG (nI 1) dX0_first_8 (by decide) ?_
  refine gc_istore_n hG dX0_first_9 rfl (Nat.le_of_ble_eq_true rfl) (lv' := [(0, _), (1, _), (2, _)]) rfl ?_
  refine gc_sub [1, 2] rfl ?_
  refine gfX0_first_L10 (s0 := t) (ad0 := ad0) hC hl hY hnL hrt hnm hT hmd r3  _ (fun t10 => ?_) FU (nI 1) s4
  refine gc_bipush hG (-2 : Int32) dX0_first_39 (by decide) ?_
  exact gc_iret hC hrt rfl rfl dX0_first_41
def fX0_quiet_L10 (v1 : Option Nat) (kx : cS → Option (Int32 × cS)) : Nat → Int32 → cS → Option (Int32 × cS)
  | 0, _, _ => none
  | k + 1, v2, t =>
    if (nI 200) < v2 then
      kx t
    else
      rv v1 (fun a5 =>
      gd (cK t a5 = 2) (
      ob (fX1_isMore a5 t) (fun r6 s7 =>
      if r6 = 0 then
        (some (v2, s7))
      else
        gd (cK s7 a5 = 2) (
        ob (fX1_steps a5 s7) (fun r8 s9 =>
        letv (v2 + (nI 1)) (fun y10 =>
        fX0_quiet_L10 v1 kx k y10 s9
        )
        )
        )
      )
      )
      )
theorem mfX0_quiet_L10 (v1 : Option Nat) (kx : cS → Option (Int32 × cS)) (hkx : ∀  (t : cS), MO t (kx t)) : ∀ (k : Nat) (v2 : Int32) (t : cS), MO t (fX0_quiet_L10 v1 kx k v2 t) := by
  intro k
  induction k with
  | zero => intro v2 t; exact mo_none
  | succ k ih =>
    intro v2 t
    rw [fX0_quiet_L10]
    refine mo_ite ?_ ?_
    · exact hkx _
    · refine mo_rv (fun _ => ?_)
      refine mo_gd ?_
      refine mo_ob (by apply mfX1_isMore) (fun _ _ => ?_)
      refine mo_ite ?_ ?_
      · exact mo_some
      · refine mo_gd ?_
        refine mo_ob (by apply mfX1_steps) (fun _ _ => ?_)
        refine mo_letv (fun _ => ?_)
        exact ih _ _
set_option maxHeartbeats 4000000 in
theorem gfX0_quiet_L10 {X : gCx} {Y : cY} {s0 : cS} {ad0 : Nat → Nat} (hC : cOk X Y RX0 cX0_quiet 38) (hl : (gLn X).stackTraces = false) (hY : ∀ q, q < Y.2.2.2.2.size → ¬ Y.2.2.2.1 q) (hnL : gLoc X = 3) (hrt : gRet X = (some .int)) (hnm : X.2.2.2.2.2.2.2.2.1.name = "quiet") (hT : gTab X = []) (hmd : (gSt X).methodNamed? yX0_quiet = some (gMe X)) (v1 : Option Nat) (kx : cS → Option (Int32 × cS)) (hkx : ∀  (t : cS), GC X Y (cM Y X 3 s0 ad0 rI) (kx t) t 37 [] []) : ∀ (k : Nat) (v2 : Int32) (t : cS), GC X Y (cM Y X 3 s0 ad0 rI) (fX0_quiet_L10 v1 kx k v2 t) t 10 [(1, vr v1), (2, .int v2)] [] := by
  have hG := hC.1
  intro k
  induction k with
  | zero => intro v2 t; exact gc_none
  | succ k ih =>
    intro v2 t
    rw [fX0_quiet_L10]
    refine gc_iload_n hG dX0_quiet_10 rfl rfl ?_
    refine gc_sipush hG (nI 200) dX0_quiet_11 (by decide) ?_
    refine gc_icmp_gt hG (tgt := 37) dX0_quiet_14 (by decide) ?_ ?_
    · refine gc_sub [] rfl ?_
      exact hkx t
    · refine gc_aload_n hG (v := vr v1) (refV_x _) dX0_quiet_17 rfl rfl ?_
      refine gc_rv (fun a5 h_ => ?_)
      subst h_
      refine gc_gd (fun hk => ?_)
      refine gc_callV (f := fX1_isMore a5 t) (As := []) (rest := []) (n := 0) (d' := 3) (b := a5) hC hnL (wX1_isMore (gLn X) Y hl hY a5 t) hk (ci := 1) rfl dX0_quiet_18 q1064 q699 q700 q75 q701 ⟨by decide +kernel, by decide +kernel⟩ rfl (by decide) (by decide) (Nat.le_of_ble_eq_true rfl) (kn_I (fun r6 s7 => ?_)) kx_I
      refine gc_if_ne hG (tgt := 26) dX0_quiet_21 (by decide) ?_ ?_
      · refine gc_iload_n hG dX0_quiet_24 rfl rfl ?_
        exact gc_iret hC hrt rfl rfl dX0_quiet_25
      · refine gc_aload_n hG (v := .ref a5) (refV_a _) dX0_quiet_26 rfl rfl ?_
        refine gc_gd (fun hk => ?_)
        refine gc_callV (f := fX1_steps a5 s7) (As := []) (rest := []) (n := 0) (d' := 37) (b := a5) hC hnL (wX1_steps (gLn X) Y hl hY a5 s7) hk (ci := 1) rfl dX0_quiet_27 q1059 q711 q712 q75 q713 ⟨by decide +kernel, by decide +kernel⟩ rfl (by decide) (by decide) (Nat.le_of_ble_eq_true rfl) (kn_I (fun r8 s9 => ?_)) kx_I
        refine gc_pop hG dX0_quiet_30 rfl ?_
        refine gc_letiinc hG (c := (nI 1)) (lv' := fun y10 => [(1, .ref a5), (2, .int y10)]) dX0_quiet_31 rfl (by decide) (Nat.le_of_ble_eq_true rfl) (fun _ => rfl) (fun y10 => ?_)
        refine gc_goto hG (tgt := 10) dX0_quiet_34 (by decide) ?_
        exact ih y10 s9
def fX0_quiet (v0 : Nat) (t : cS) : Option (Int32 × cS) :=
  gd (cK t v0 = 1) (
  letv (cR t 1 v0) (fun x1 =>
  rv x1 (fun a2 =>
  gd (cK t a2 = 2) (
  ob (fX1_copy a2 t) (fun r3 s4 =>
  fX0_quiet_L10 r3 (fun  (t11 : cS) =>
    (some ((-2 : Int32), t11))
    ) FU (nI 0) s4
  )
  )
  )
  )
  )
theorem mfX0_quiet (v0 : Nat) (t : cS) : MO t (fX0_quiet v0 t) := by
  unfold fX0_quiet
  refine mo_gd ?_
  refine mo_letv (fun _ => ?_)
  refine mo_rv (fun _ => ?_)
  refine mo_gd ?_
  refine mo_ob (by apply mfX1_copy) (fun _ _ => ?_)
  refine mfX0_quiet_L10 _ _ (fun _ => ?_) _ _ _
  exact mo_some
set_option maxHeartbeats 4000000 in
theorem wX0_quiet (l : Launch) (Y : cY) (hl : l.stackTraces = false) (hY : ∀ q, q < Y.2.2.2.2.size → ¬ Y.2.2.2.1 q) (v0 : Nat) (t : cS) : cFn l Y yX0_quiet (ws_ yX0_quiet cX0_quiet 3 (some .int)) 38 [.ref v0] t (fX0_quiet v0 t) rI := by
  refine cmet (av := [.ref v0]) (mfX0_quiet v0 t) hl hY (by decide +kernel) (lg_le (List.forall_mem_cons.mpr ⟨rfl, fun _ h => absurd h List.not_mem_nil⟩) (Nat.le_of_ble_eq_true rfl)) (lv_args_cat (List.forall_mem_cons.mpr ⟨rfl, fun _ h => absurd h List.not_mem_nil⟩)) ?_
  intro X ad0 hln hC hnL hrt hnm hT hmd
  subst hln
  have hG := hC.1
  rw [lv_args_s (List.forall_mem_cons.mpr ⟨rfl, fun _ h => absurd h List.not_mem_nil⟩)]
  show GC X Y (cM Y X 3 t ad0 rI) _ t 0 [(0, .ref v0)] []
  unfold fX0_quiet
  refine gc_aload_n hG (v := .ref v0) (refV_a _) dX0_quiet_0 rfl rfl ?_
  refine gc_gd (fun hk => ?_)
  refine gc_get hC (ci := 0) (j := 0) (v := vr (cR t 1 v0)) hk dX0_quiet_1 rfl (by decide) in_X0 q224 (fun _ h => h) rfl ?_
  refine gc_letr (fun x1 h_ => ?_)
  refine gc_rv (fun a2 h_ => ?_)
  subst h_
  refine gc_gd (fun hk => ?_)
  refine gc_callV (f := fX1_copy a2 t) (As := []) (rest := []) (n := 0) (d' := 5) (b := a2) hC hnL (wX1_copy (gLn X) Y hl hY a2 t) hk (ci := 1) rfl dX0_quiet_4 q1037 q1038 q1039 q75 q1040 ⟨by decide +kernel, by decide +kernel⟩ rfl (by decide) (by decide) (Nat.le_of_ble_eq_true rfl) (kn_R (fun r3 s4 => ?_)) kx_R
  refine gc_astore_n hG (refV_x _) dX0_quiet_7 rfl (Nat.le_of_ble_eq_true rfl) (lv' := [(0, _), (1, _)]) rfl ?_
  refine gc_iconst hG (nI 0) dX0_quiet_8 (by decide) ?_
  refine gc_istore_n hG dX0_quiet_9 rfl (Nat.le_of_ble_eq_true rfl) (lv' := [(0, _), (1, _), (2, _)]) rfl ?_
  refine gc_sub [1, 2] rfl ?_
  refine gfX0_quiet_L10 (s0 := t) (ad0 := ad0) hC hl hY hnL hrt hnm hT hmd r3  _ (fun t11 => ?_) FU (nI 0) s4
  refine gc_bipush hG (-2 : Int32) dX0_quiet_37 (by decide) ?_
  exact gc_iret hC hrt rfl rfl dX0_quiet_39
def fX0_isLive (v0 : Nat) (v1 : Int32) (t : cS) : Option (Int32 × cS) :=
  gd (cK t v0 = 1) (
  ob (fX0_isActor v0 v1 t) (fun r1 s2 =>
  if r1 = 0 then
    (some ((nI 0), s2))
  else
    gd (cK s2 v0 = 1) (
    letv (cR s2 1 v0) (fun x3 =>
    rv x3 (fun a4 =>
    gd (cK s2 a4 = 2) (
    letv (cR s2 6 a4) (fun x5 =>
    rv x5 (fun a6 =>
    gd (cK s2 a6 = 23 ∧ cIn s2 a6 v1) (
    letv (cR s2 (er (v1).toNatClampNeg) a6) (fun x7 =>
    rv x7 (fun a8 =>
    gd (cK s2 a8 = 5) (
    letv (cI s2 33 a8) (fun x9 =>
    if x9 = 0 then
      (some ((nI 0), s2))
    else
      (some ((nI 1), s2))
    )
    )
    )
    )
    )
    )
    )
    )
    )
    )
    )
  )
  )
theorem mfX0_isLive (v0 : Nat) (v1 : Int32) (t : cS) : MO t (fX0_isLive v0 v1 t) := by
  unfold fX0_isLive
  refine mo_gd ?_
  refine mo_ob (by apply mfX0_isActor) (fun _ _ => ?_)
  refine mo_ite ?_ ?_
  · exact mo_some
  · refine mo_gd ?_
    refine mo_letv (fun _ => ?_)
    refine mo_rv (fun _ => ?_)
    refine mo_gd ?_
    refine mo_letv (fun _ => ?_)
    refine mo_rv (fun _ => ?_)
    refine mo_gd ?_
    refine mo_letv (fun _ => ?_)
    refine mo_rv (fun _ => ?_)
    refine mo_gd ?_
    refine mo_letv (fun _ => ?_)
    refine mo_ite ?_ ?_
    · exact mo_some
    · exact mo_some
set_option maxHeartbeats 4000000 in
theorem wX0_isLive (l : Launch) (Y : cY) (hl : l.stackTraces = false) (hY : ∀ q, q < Y.2.2.2.2.size → ¬ Y.2.2.2.1 q) (v0 : Nat) (v1 : Int32) (t : cS) : cFn l Y yX0_isLive (ws_ yX0_isLive cX0_isLive 2 (some .boolean)) 2 [.ref v0, .int v1] t (fX0_isLive v0 v1 t) rI := by
  refine cmet (av := [.ref v0, .int v1]) (mfX0_isLive v0 v1 t) hl hY (by decide +kernel) (lg_le (List.forall_mem_cons.mpr ⟨rfl, List.forall_mem_cons.mpr ⟨rfl, fun _ h => absurd h List.not_mem_nil⟩⟩) (Nat.le_of_ble_eq_true rfl)) (lv_args_cat (List.forall_mem_cons.mpr ⟨rfl, List.forall_mem_cons.mpr ⟨rfl, fun _ h => absurd h List.not_mem_nil⟩⟩)) ?_
  intro X ad0 hln hC hnL hrt hnm hT hmd
  subst hln
  have hG := hC.1
  rw [lv_args_s (List.forall_mem_cons.mpr ⟨rfl, List.forall_mem_cons.mpr ⟨rfl, fun _ h => absurd h List.not_mem_nil⟩⟩)]
  show GC X Y (cM Y X 2 t ad0 rI) _ t 0 [(0, .ref v0), (1, .int v1)] []
  unfold fX0_isLive
  refine gc_aload_n hG (v := .ref v0) (refV_a _) dX0_isLive_0 rfl rfl ?_
  refine gc_iload_n hG dX0_isLive_1 rfl rfl ?_
  refine gc_gd (fun hk => ?_)
  refine gc_callV (f := fX0_isActor v0 v1 t) (As := [.int v1]) (rest := []) (n := 1) (d' := 1) (b := v0) hC hnL (wX0_isActor (gLn X) Y hl hY v0 v1 t) hk (ci := 0) rfl dX0_isLive_2 q366 q368 qs0 q74 q369 ⟨by decide +kernel, by decide +kernel⟩ rfl (by decide) (by decide) (Nat.le_of_ble_eq_true rfl) (kn_I (fun r1 s2 => ?_)) kx_I
  refine gc_if_eq hG (tgt := 27) dX0_isLive_5 (by decide) ?_ ?_
  · refine gc_iconst hG (nI 0) dX0_isLive_27 (by decide) ?_
    exact gc_iret hC hrt (by decide) rfl dX0_isLive_28
  · refine gc_aload_n hG (v := .ref v0) (refV_a _) dX0_isLive_8 rfl rfl ?_
    refine gc_gd (fun hk => ?_)
    refine gc_get hC (ci := 0) (j := 0) (v := vr (cR s2 1 v0)) hk dX0_isLive_9 rfl (by decide) in_X0 q224 (fun _ h => h) rfl ?_
    refine gc_letr (fun x3 h_ => ?_)
    refine gc_rv (fun a4 h_ => ?_)
    subst h_
    refine gc_gd (fun hk => ?_)
    refine gc_getN hC (ci := 1) (j := 0) (v := vr (cR s2 6 a4)) hk dX0_isLive_12 rfl (by decide) in_X1 q160 (fun _ h => h) rfl ?_
    refine gc_letr (fun x5 h_ => ?_)
    refine gc_iload_n hG dX0_isLive_15 rfl rfl ?_
    refine gc_rv (fun a6 h_ => ?_)
    subst h_
    refine gc_gd (fun hk => ?_)
    refine gc_aald hC hk.1 (by decide) (by decide) (t0 := 3) rfl hk.2 dX0_isLive_16 ?_
    refine gc_letr (fun x7 h_ => ?_)
    refine gc_rv (fun a8 h_ => ?_)
    subst h_
    refine gc_gd (fun hk => ?_)
    refine gc_getN hC (ci := 4) (j := 7) (v := .int (cI s2 33 a8)) hk dX0_isLive_17 rfl (by decide) in_X5 q302 (fun _ h => h) rfl ?_
    refine gc_letv (fun x9 h_ => ?_)
    refine gc_if_eq hG (tgt := 27) dX0_isLive_20 (by decide) ?_ ?_
    · refine gc_iconst hG (nI 0) dX0_isLive_27 (by decide) ?_
      exact gc_iret hC hrt (by decide) rfl dX0_isLive_28
    · refine gc_iconst hG (nI 1) dX0_isLive_23 (by decide) ?_
      refine gc_goto hG (tgt := 28) dX0_isLive_24 (by decide) ?_
      exact gc_iret hC hrt (by decide) rfl dX0_isLive_28
