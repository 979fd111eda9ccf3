/-! the component: walks, by program (gen/cgen.py) -/
def fX1_isMore (v0 : Nat) (t : cS) : Option (Int32 × cS) :=
  gd (cK t v0 = 2) (
  letv (cR t 12 v0) (fun x1 =>
  rv x1 (fun a2 =>
  gd (cK t a2 = 3) (
  letv (cI t 24 a2) (fun x3 =>
  jn (fun  (t4 : cS) =>
    (some ((nI 1), t4))
    ) (fun (j5 : cS → Option (Int32 × cS)) =>
    if 0 < x3 then
      j5 t
    else
      gd (cK t v0 = 2) (
      ob (fX1_next v0 t) (fun r6 s7 =>
      onul r6 (
        (some ((nI 0), s7))
      ) (fun a8 =>
        j5 s7
      )
      )
      )
    )
  )
  )
  )
  )
  )
theorem mfX1_isMore (v0 : Nat) (t : cS) : MO t (fX1_isMore v0 t) := by
  unfold fX1_isMore
  refine mo_gd ?_
  refine mo_letv (fun _ => ?_)
  refine mo_rv (fun _ => ?_)
  refine mo_gd ?_
  refine mo_letv (fun _ => ?_)
  refine mo_jn (fun j_ => ∀ ( t4 : cS ), MO t4 (j_ t4)) (fun t4 => ?_) (fun j5 hj5 => ?_)
  · exact mo_some
  · refine mo_ite ?_ ?_
    · exact hj5 _
    · refine mo_gd ?_
      refine mo_ob (by apply mfX1_next) (fun _ _ => ?_)
      refine mo_onul ?_ (fun _ => ?_)
      · exact mo_some
      · exact hj5 _
set_option maxHeartbeats 4000000 in
theorem wX1_isMore (l : Launch) (Y : cY) (hl : l.stackTraces = false) (hY : ∀ q, q < Y.2.2.2.2.size → ¬ Y.2.2.2.1 q) (v0 : Nat) (t : cS) : cFn l Y yX1_isMore (ws_ yX1_isMore cX1_isMore 1 (some .boolean)) 3 [.ref v0] t (fX1_isMore v0 t) rI := by
  refine cmet (av := [.ref v0]) (mfX1_isMore v0 t) hl hY (by decide +kernel) (lg_le (List.forall_mem_cons.mpr ⟨rfl, fun _ h => absurd h List.not_mem_nil⟩) (Nat.le_of_ble_eq_true rfl)) (lv_args_cat (List.forall_mem_cons.mpr ⟨rfl, fun _ h => absurd h List.not_mem_nil⟩)) ?_
  intro X ad0 hln hC hnL hrt hnm hT hmd
  subst hln
  have hG := hC.1
  rw [lv_args_s (List.forall_mem_cons.mpr ⟨rfl, fun _ h => absurd h List.not_mem_nil⟩)]
  show GC X Y (cM Y X 1 t ad0 rI) _ t 0 [(0, .ref v0)] []
  unfold fX1_isMore
  refine gc_aload_n hG (v := .ref v0) (refV_a _) dX1_isMore_0 rfl rfl ?_
  refine gc_gd (fun hk => ?_)
  refine gc_get hC (ci := 1) (j := 6) (v := vr (cR t 12 v0)) hk dX1_isMore_1 rfl (by decide) in_X1 q174 (fun _ h => h) rfl ?_
  refine gc_letr (fun x1 h_ => ?_)
  refine gc_rv (fun a2 h_ => ?_)
  subst h_
  refine gc_gd (fun hk => ?_)
  refine gc_getN hC (ci := 2) (j := 3) (v := .int (cI t 24 a2)) hk dX1_isMore_4 rfl (by decide) in_X2 q135 (fun _ h => h) rfl ?_
  refine gc_letv (fun x3 h_ => ?_)
  refine gc_jn (fun j_ => ∀  (t4 : cS), GC X Y (cM Y X 1 t ad0 rI) (j_ t4) t4 17 [] []) (fun t4 => ?_) (fun j5 hj5 => ?_)
  · refine gc_iconst hG (nI 1) dX1_isMore_17 (by decide) ?_
    refine gc_goto hG (tgt := 22) dX1_isMore_18 (by decide) ?_
    exact gc_iret hC hrt (by decide) rfl dX1_isMore_22
  · refine gc_if_gt hG (tgt := 17) dX1_isMore_7 (by decide) ?_ ?_
    · refine gc_sub [] rfl ?_
      exact hj5 t
    · refine gc_aload_n hG (v := .ref v0) (refV_a _) dX1_isMore_10 rfl rfl ?_
      refine gc_gd (fun hk => ?_)
      refine gc_callV (f := fX1_next v0 t) (As := []) (rest := []) (n := 0) (d' := 2) (b := v0) hC hnL (wX1_next (gLn X) Y hl hY v0 t) hk (ci := 1) rfl dX1_isMore_11 q702 q704 qs6 q75 q705 ⟨by decide +kernel, by decide +kernel⟩ rfl (by decide) (by decide) (Nat.le_of_ble_eq_true rfl) (kn_R (fun r6 s7 => ?_)) kx_R
      refine gc_ifnull hG (tgt := 21) dX1_isMore_14 (by decide) (fun h_ => ?_) (fun a8 h_ => ?_)
      · subst h_
        refine gc_iconst hG (nI 0) dX1_isMore_21 (by decide) ?_
        exact gc_iret hC hrt (by decide) rfl dX1_isMore_22
      · subst h_
        refine gc_sub [] rfl ?_
        exact hj5 s7
def fX1_ends (v0 : Nat) (v1 : Int32) (v2 : Int32) (t : cS) : Option (Int32 × cS) :=
  gd (cK t v0 = 2) (
  letv (cI t 7 v0) (fun x1 =>
  jn (fun  (t2 : cS) =>
    gd (cK t2 v0 = 2) (
    ob (fX1_isMore v0 t2) (fun r4 s5 =>
    if r4 = 0 then
      (some ((nI 1), s5))
    else
      if v1 = v2 then
        (some ((nI 0), s5))
      else
        (some ((-1 : Int32), s5))
    )
    )
    ) (fun (j3 : cS → Option (Int32 × cS)) =>
    if 0 < x1 then
      gd (cK t v0 = 2) (
      letv (cR t 6 v0) (fun x6 =>
      rv x6 (fun a7 =>
      gd (cK t a7 = 23 ∧ cIn t a7 (nI 0)) (
      letv (cR t (er ((nI 0)).toNatClampNeg) a7) (fun x8 =>
      rv x8 (fun a9 =>
      gd (cK t a9 = 5) (
      letv (cI t 33 a9) (fun x10 =>
      if x10 = 0 then
        (some ((nI 2), t))
      else
        j3 t
      )
      )
      )
      )
      )
      )
      )
      )
    else
      j3 t
    )
  )
  )
theorem mfX1_ends (v0 : Nat) (v1 : Int32) (v2 : Int32) (t : cS) : MO t (fX1_ends v0 v1 v2 t) := by
  unfold fX1_ends
  refine mo_gd ?_
  refine mo_letv (fun _ => ?_)
  refine mo_jn (fun j_ => ∀ ( t2 : cS ), MO t2 (j_ t2)) (fun t2 => ?_) (fun j3 hj3 => ?_)
  · refine mo_gd ?_
    refine mo_ob (by apply mfX1_isMore) (fun _ _ => ?_)
    refine mo_ite ?_ ?_
    · exact mo_some
    · refine mo_ite ?_ ?_
      · exact mo_some
      · exact mo_some
  · refine mo_ite ?_ ?_
    · refine mo_gd ?_
      refine mo_letv (fun _ => ?_)
      refine mo_rv (fun _ => ?_)
      refine mo_gd ?_
      refine mo_letv (fun _ => ?_)
      refine mo_rv (fun _ => ?_)
      refine mo_gd ?_
      refine mo_letv (fun _ => ?_)
      refine mo_ite ?_ ?_
      · exact mo_some
      · exact hj3 _
    · exact hj3 _
set_option maxHeartbeats 4000000 in
theorem wX1_ends (l : Launch) (Y : cY) (hl : l.stackTraces = false) (hY : ∀ q, q < Y.2.2.2.2.size → ¬ Y.2.2.2.1 q) (v0 : Nat) (v1 : Int32) (v2 : Int32) (t : cS) : cFn l Y yX1_ends (ws_ yX1_ends cX1_ends 3 (some .int)) 4 [.ref v0, .int v1, .int v2] t (fX1_ends v0 v1 v2 t) rI := by
  refine cmet (av := [.ref v0, .int v1, .int v2]) (mfX1_ends v0 v1 v2 t) hl hY (by decide +kernel) (lg_le (List.forall_mem_cons.mpr ⟨rfl, List.forall_mem_cons.mpr ⟨rfl, List.forall_mem_cons.mpr ⟨rfl, fun _ h => absurd h List.not_mem_nil⟩⟩⟩) (Nat.le_of_ble_eq_true rfl)) (lv_args_cat (List.forall_mem_cons.mpr ⟨rfl, List.forall_mem_cons.mpr ⟨rfl, List.forall_mem_cons.mpr ⟨rfl, fun _ h => absurd h List.not_mem_nil⟩⟩⟩)) ?_
  intro X ad0 hln hC hnL hrt hnm hT hmd
  subst hln
  have hG := hC.1
  rw [lv_args_s (List.forall_mem_cons.mpr ⟨rfl, List.forall_mem_cons.mpr ⟨rfl, List.forall_mem_cons.mpr ⟨rfl, fun _ h => absurd h List.not_mem_nil⟩⟩⟩)]
  show GC X Y (cM Y X 3 t ad0 rI) _ t 0 [(0, .ref v0), (1, .int v1), (2, .int v2)] []
  unfold fX1_ends
  refine gc_aload_n hG (v := .ref v0) (refV_a _) dX1_ends_0 rfl rfl ?_
  refine gc_gd (fun hk => ?_)
  refine gc_get hC (ci := 1) (j := 1) (v := .int (cI t 7 v0)) hk dX1_ends_1 rfl (by decide) in_X1 q162 (fun _ h => h) rfl ?_
  refine gc_letv (fun x1 h_ => ?_)
  refine gc_jn (fun j_ => ∀  (t2 : cS), GC X Y (cM Y X 3 t ad0 rI) (j_ t2) t2 21 [(0, .ref v0), (1, .int v1), (2, .int v2)] []) (fun t2 => ?_) (fun j3 hj3 => ?_)
  · refine gc_aload_n hG (v := .ref v0) (refV_a _) dX1_ends_21 rfl rfl ?_
    refine gc_gd (fun hk => ?_)
    refine gc_callV (f := fX1_isMore v0 t2) (As := []) (rest := []) (n := 0) (d' := 3) (b := v0) hC hnL (wX1_isMore (gLn X) Y hl hY v0 t2) hk (ci := 1) rfl dX1_ends_22 q698 q699 q700 q75 q701 ⟨by decide +kernel, by decide +kernel⟩ rfl (by decide) (by decide) (Nat.le_of_ble_eq_true rfl) (kn_I (fun r4 s5 => ?_)) kx_I
    refine gc_if_ne hG (tgt := 30) dX1_ends_25 (by decide) ?_ ?_
    · refine gc_iconst hG (nI 1) dX1_ends_28 (by decide) ?_
      exact gc_iret hC hrt rfl rfl dX1_ends_29
    · refine gc_iload_n hG dX1_ends_30 rfl rfl ?_
      refine gc_iload_n hG dX1_ends_31 rfl rfl ?_
      refine gc_icmp_ne hG (tgt := 39) dX1_ends_32 (by decide) ?_ ?_
      · refine gc_iconst hG (nI 0) dX1_ends_35 (by decide) ?_
        refine gc_goto hG (tgt := 40) dX1_ends_36 (by decide) ?_
        exact gc_iret hC hrt rfl rfl dX1_ends_40
      · refine gc_iconst hG (-1 : Int32) dX1_ends_39 (by decide) ?_
        exact gc_iret hC hrt rfl rfl dX1_ends_40
  · refine gc_if_le hG (tgt := 21) dX1_ends_4 (by decide) ?_ ?_
    · refine gc_aload_n hG (v := .ref v0) (refV_a _) dX1_ends_7 rfl rfl ?_
      refine gc_gd (fun hk => ?_)
      refine gc_get hC (ci := 1) (j := 0) (v := vr (cR t 6 v0)) hk dX1_ends_8 rfl (by decide) in_X1 q158 (fun _ h => h) rfl ?_
      refine gc_letr (fun x6 h_ => ?_)
      refine gc_iconst hG (nI 0) dX1_ends_11 (by decide) ?_
      refine gc_rv (fun a7 h_ => ?_)
      subst h_
      refine gc_gd (fun hk => ?_)
      refine gc_aald hC hk.1 (by decide) (by decide) (t0 := 3) rfl hk.2 dX1_ends_12 ?_
      refine gc_letr (fun x8 h_ => ?_)
      refine gc_rv (fun a9 h_ => ?_)
      subst h_
      refine gc_gd (fun hk => ?_)
      refine gc_getN hC (ci := 4) (j := 7) (v := .int (cI t 33 a9)) hk dX1_ends_13 rfl (by decide) in_X5 q300 (fun _ h => h) rfl ?_
      refine gc_letv (fun x10 h_ => ?_)
      refine gc_if_ne hG (tgt := 21) dX1_ends_16 (by decide) ?_ ?_
      · refine gc_iconst hG (nI 2) dX1_ends_19 (by decide) ?_
        exact gc_iret hC hrt rfl rfl dX1_ends_20
      · exact hj3 t
    · exact hj3 t
def fX15_init (v0 : Nat) (v1 : Int32) (v2 : Int32) (v3 : Int32) (t : cS) : Option (Unit × cS) :=
  gd (cK t v0 = 13) (
  letv (sI t 59 v0 v1) (fun s1 =>
  gd (cK s1 v0 = 13) (
  letv (sI s1 60 v0 v2) (fun s2 =>
  gd (cK s2 v0 = 13) (
  letv (sI s2 61 v0 v3) (fun s3 =>
  (some ((), s3))
  )
  )
  )
  )
  )
  )
theorem mfX15_init (v0 : Nat) (v1 : Int32) (v2 : Int32) (v3 : Int32) (t : cS) : MO t (fX15_init v0 v1 v2 v3 t) := by
  unfold fX15_init
  refine mo_gd ?_
  refine mo_letS cMo_sI (fun _ => ?_)
  refine mo_gd ?_
  refine mo_letS cMo_sI (fun _ => ?_)
  refine mo_gd ?_
  refine mo_letS cMo_sI (fun _ => ?_)
  exact mo_some
set_option maxHeartbeats 4000000 in
theorem wX15_init (l : Launch) (Y : cY) (hl : l.stackTraces = false) (hY : ∀ q, q < Y.2.2.2.2.size → ¬ Y.2.2.2.1 q) (v0 : Nat) (v1 : Int32) (v2 : Int32) (v3 : Int32) (t : cS) : cFn l Y yX15_init (ws_ yX15_init cX15_init 4 none) 1 [.ref v0, .int v1, .int v2, .int v3] t (fX15_init v0 v1 v2 v3 t) rV := by
  refine cmet (av := [.ref v0, .int v1, .int v2, .int v3]) (mfX15_init v0 v1 v2 v3 t) hl hY (by decide +kernel) (lg_le (List.forall_mem_cons.mpr ⟨rfl, List.forall_mem_cons.mpr ⟨rfl, List.forall_mem_cons.mpr ⟨rfl, List.forall_mem_cons.mpr ⟨rfl, fun _ h => absurd h List.not_mem_nil⟩⟩⟩⟩) (Nat.le_of_ble_eq_true rfl)) (lv_args_cat (List.forall_mem_cons.mpr ⟨rfl, List.forall_mem_cons.mpr ⟨rfl, List.forall_mem_cons.mpr ⟨rfl, List.forall_mem_cons.mpr ⟨rfl, fun _ h => absurd h List.not_mem_nil⟩⟩⟩⟩)) ?_
  intro X ad0 hln hC hnL hrt hnm hT hmd
  subst hln
  have hG := hC.1
  rw [lv_args_s (List.forall_mem_cons.mpr ⟨rfl, List.forall_mem_cons.mpr ⟨rfl, List.forall_mem_cons.mpr ⟨rfl, List.forall_mem_cons.mpr ⟨rfl, fun _ h => absurd h List.not_mem_nil⟩⟩⟩⟩)]
  show GC X Y (cM Y X 4 t ad0 rV) _ t 0 [(0, .ref v0), (1, .int v1), (2, .int v2), (3, .int v3)] []
  unfold fX15_init
  refine gc_aload_n hG (v := .ref v0) (refV_a _) dX15_init_0 rfl rfl ?_
  refine gc_objInit hC hnL q896 q113 q114 dX15_init_1 (Nat.le_of_ble_eq_true rfl) ?_
  refine gc_aload_n hG (v := .ref v0) (refV_a _) dX15_init_4 rfl rfl ?_
  refine gc_iload_n hG dX15_init_5 rfl rfl ?_
  refine gc_gd (fun hk => ?_)
  have pt := pt_I (s := t) (f := 59) (a := v0) (x := v1) rfl
  refine gc_putF hC tyX15 tyX15_ok nmX15 hk dX15_init_6 (ci := 12) (j := 0) (Or.inl (by decide)) rfl (by decide) in_X15 q897 (fun _ h => h) rfl (by rw [hnm]; rfl) rfl (tyX15_ok 0 (by decide)) (fun _ => rfl) (fun _ => rfl) pt.1.1 pt.1.2.1 pt.1.2.2.1 pt.1.2.2.2 pt.2.1 pt.2.2.1 pt.2.2.2 ?_
  refine gc_letS (fun s1 => ?_)
  refine gc_aload_n hG (v := .ref v0) (refV_a _) dX15_init_9 rfl rfl ?_
  refine gc_iload_n hG dX15_init_10 rfl rfl ?_
  refine gc_gd (fun hk => ?_)
  have pt := pt_I (s := s1) (f := 60) (a := v0) (x := v2) rfl
  refine gc_putF hC tyX15 tyX15_ok nmX15 hk dX15_init_11 (ci := 12) (j := 1) (Or.inl (by decide)) rfl (by decide) in_X15 q901 (fun _ h => h) rfl (by rw [hnm]; rfl) rfl (tyX15_ok 1 (by decide)) (fun _ => rfl) (fun _ => rfl) pt.1.1 pt.1.2.1 pt.1.2.2.1 pt.1.2.2.2 pt.2.1 pt.2.2.1 pt.2.2.2 ?_
  refine gc_letS (fun s2 => ?_)
  refine gc_aload_n hG (v := .ref v0) (refV_a _) dX15_init_14 rfl rfl ?_
  refine gc_iload_n hG dX15_init_15 rfl rfl ?_
  refine gc_gd (fun hk => ?_)
  have pt := pt_I (s := s2) (f := 61) (a := v0) (x := v3) rfl
  refine gc_putF hC tyX15 tyX15_ok nmX15 hk dX15_init_16 (ci := 12) (j := 2) (Or.inl (by decide)) rfl (by decide) in_X15 q904 (fun _ h => h) rfl (by rw [hnm]; rfl) rfl (tyX15_ok 2 (by decide)) (fun _ => rfl) (fun _ => rfl) pt.1.1 pt.1.2.1 pt.1.2.2.1 pt.1.2.2.2 pt.2.1 pt.2.2.1 pt.2.2.2 ?_
  refine gc_letS (fun s3 => ?_)
  exact gc_vret hC hrt rfl dX15_init_19
def fX2_putsAhead_L19 (v0 : Nat) (v2 : Option Nat) (v3 : Nat) (kx : Option Nat → cS → Option (Unit × cS)) : Nat → Option Nat → Option Nat → cS → Option (Unit × cS)
  | 0, _, _, _ => none
  | k + 1, v4, v5, t =>
    onul v5 (
      kx v4 t
    ) (fun a5 =>
      gd (cK t a5 = 7) (
      letv (cR t 45 a5) (fun x6 =>
      rv v2 (fun a7 =>
      ob (fD_is a7 x6 t) (fun r8 s9 =>
      if r8 = 0 then
        gd (cK s9 a5 = 7) (
        letv (cR s9 46 a5) (fun x10 =>
        fX2_putsAhead_L19 v0 v2 v3 kx k (some a5) x10 s9
        )
        )
      else
        kx v4 s9
      )
      )
      )
      )
    )
theorem mfX2_putsAhead_L19 (v0 : Nat) (v2 : Option Nat) (v3 : Nat) (kx : Option Nat → cS → Option (Unit × cS)) (hkx : ∀ (v4 : Option Nat) (t : cS), MO t (kx v4 t)) : ∀ (k : Nat) (v4 : Option Nat) (v5 : Option Nat) (t : cS), MO t (fX2_putsAhead_L19 v0 v2 v3 kx k v4 v5 t) := by
  intro k
  induction k with
  | zero => intro v4 v5 t; exact mo_none
  | succ k ih =>
    intro v4 v5 t
    rw [fX2_putsAhead_L19]
    refine mo_onul ?_ (fun _ => ?_)
    · exact hkx _ _
    · refine mo_gd ?_
      refine mo_letv (fun _ => ?_)
      refine mo_rv (fun _ => ?_)
      refine mo_ob (by apply mfD_is) (fun _ _ => ?_)
      refine mo_ite ?_ ?_
      · refine mo_gd ?_
        refine mo_letv (fun _ => ?_)
        exact ih _ _ _
      · exact hkx _ _
set_option maxHeartbeats 4000000 in
theorem gfX2_putsAhead_L19 {X : gCx} {Y : cY} {s0 : cS} {ad0 : Nat → Nat} (hC : cOk X Y RX2 cX2_putsAhead 4) (hl : (gLn X).stackTraces = false) (hY : ∀ q, q < Y.2.2.2.2.size → ¬ Y.2.2.2.1 q) (hnL : gLoc X = 6) (hrt : gRet X = none) (hnm : X.2.2.2.2.2.2.2.2.1.name = "putsAhead") (hT : gTab X = []) (hmd : (gSt X).methodNamed? yX2_putsAhead = some (gMe X)) (v0 : Nat) (v2 : Option Nat) (v3 : Nat) (kx : Option Nat → cS → Option (Unit × cS)) (hkx : ∀ (v4 : Option Nat) (t : cS), GC X Y (cM Y X 6 s0 ad0 rV) (kx v4 t) t 52 [(0, .ref v0), (3, .ref v3), (4, vr v4)] []) : ∀ (k : Nat) (v4 : Option Nat) (v5 : Option Nat) (t : cS), GC X Y (cM Y X 6 s0 ad0 rV) (fX2_putsAhead_L19 v0 v2 v3 kx k v4 v5 t) t 19 [(0, .ref v0), (2, vr v2), (3, .ref v3), (4, vr v4), (5, vr v5)] [] := by
  have hG := hC.1
  intro k
  induction k with
  | zero => intro v4 v5 t; exact gc_none
  | succ k ih =>
    intro v4 v5 t
    rw [fX2_putsAhead_L19]
    refine gc_aload hG (v := vr v5) (refV_x _) dX2_putsAhead_19 rfl ?_
    refine gc_ifnull hG (tgt := 52) dX2_putsAhead_21 (by decide) (fun h_ => ?_) (fun a5 h_ => ?_)
    · subst h_
      refine gc_sub [0, 2, 3] rfl ?_
      exact hkx v4 t
    · subst h_
      refine gc_aload_n hG (v := vr v2) (refV_x _) dX2_putsAhead_24 rfl rfl ?_
      refine gc_aload hG (v := .ref a5) (refV_a _) dX2_putsAhead_25 rfl ?_
      refine gc_gd (fun hk => ?_)
      refine gc_getN hC (ci := 6) (j := 0) (v := vr (cR t 45 a5)) hk dX2_putsAhead_27 rfl (by decide) in_X8 q406 (fun _ h => h) rfl ?_
      refine gc_letr (fun x6 h_ => ?_)
      refine gc_rv (fun a7 h_ => ?_)
      subst h_
      refine gD_is (rest := []) hC hnL hl hY dX2_putsAhead_30 q659 (by decide) (Nat.le_of_ble_eq_true rfl) (kn_I (fun r8 s9 => ?_)) kx_I
      refine gc_if_ne hG (tgt := 52) dX2_putsAhead_35 (by decide) ?_ ?_
      · refine gc_aload hG (v := .ref a5) (refV_a _) dX2_putsAhead_38 rfl ?_
        refine gc_astore hG (refV_a _) dX2_putsAhead_40 (Nat.le_of_ble_eq_true rfl) (lv' := [(0, _), (2, _), (3, _), (4, _), (5, _)]) rfl ?_
        refine gc_aload hG (v := .ref a5) (refV_a _) dX2_putsAhead_42 rfl ?_
        refine gc_gd (fun hk => ?_)
        refine gc_getN hC (ci := 6) (j := 1) (v := vr (cR s9 46 a5)) hk dX2_putsAhead_44 rfl (by decide) in_X8 q409 (fun _ h => h) rfl ?_
        refine gc_letr (fun x10 h_ => ?_)
        refine gc_astore hG (refV_x _) dX2_putsAhead_47 (Nat.le_of_ble_eq_true rfl) (lv' := [(0, _), (2, _), (3, _), (4, _), (5, _)]) rfl ?_
        refine gc_goto hG (tgt := 19) dX2_putsAhead_49 (by decide) ?_
        exact ih (some a5) x10 s9
      · refine gc_sub [0, 2, 3] rfl ?_
        exact hkx v4 s9
def fX2_putsAhead (v0 : Nat) (v1 : Option Nat) (v2 : Option Nat) (t : cS) : Option (Unit × cS) :=
  letv (sN t 7 0 3) (fun s1 =>
  ob (fX8_init (cn t) (some v0) v1 s1) (fun r2 s3 =>
  gd (cK s3 v0 = 3) (
  letv (cR s3 22 v0) (fun x4 =>
  fX2_putsAhead_L19 v0 v2 (cn t) (fun (v4_11 : Option Nat) (t12 : cS) =>
    jn (fun (x13 : Option Nat) (t14 : cS) =>
      gd (cK t14 (cn t) = 7) (
      letv (sR t14 46 (cn t) x13) (fun s16 =>
      jn (fun  (t17 : cS) =>
        gd (cK t17 (cn t) = 7) (
        letv (cR t17 46 (cn t)) (fun x19 =>
        jn (fun (x20 : Option Nat) (t21 : cS) =>
          gd (cK t21 v0 = 3) (
          letv (sR t21 23 v0 x20) (fun s23 =>
          gd (cK s23 v0 = 3) (
          letv (cI s23 24 v0) (fun x24 =>
          gd (cK s23 v0 = 3) (
          letv (sI s23 24 v0 (x24 + (nI 1))) (fun s25 =>
          (some ((), s25))
          )
          )
          )
          )
          )
          )
          ) (fun (j22 : Option Nat → cS → Option (Unit × cS)) =>
          onul x19 (
            j22 (some (cn t)) t17
          ) (fun a26 =>
            gd (cK t17 v0 = 3) (
            letv (cR t17 23 v0) (fun x27 =>
            j22 x27 t17
            )
            )
          )
          )
        )
        )
        ) (fun (j18 : cS → Option (Unit × cS)) =>
        onul v4_11 (
          gd (cK s16 v0 = 3) (
          letv (sR s16 22 v0 (some (cn t))) (fun s29 =>
          j18 s29
          )
          )
        ) (fun a28 =>
          gd (cK s16 a28 = 7) (
          letv (sR s16 46 a28 (some (cn t))) (fun s30 =>
          j18 s30
          )
          )
        )
        )
      )
      )
      ) (fun (j15 : Option Nat → cS → Option (Unit × cS)) =>
      onul v4_11 (
        gd (cK t12 v0 = 3) (
        letv (cR t12 22 v0) (fun x32 =>
        j15 x32 t12
        )
        )
      ) (fun a31 =>
        gd (cK t12 a31 = 7) (
        letv (cR t12 46 a31) (fun x33 =>
        j15 x33 t12
        )
        )
      )
      )
    ) FU none x4 s3
  )
  )
  )
  )
theorem mfX2_putsAhead (v0 : Nat) (v1 : Option Nat) (v2 : Option Nat) (t : cS) : MO t (fX2_putsAhead v0 v1 v2 t) := by
  unfold fX2_putsAhead
  refine mo_letS cMo_sN (fun _ => ?_)
  refine mo_ob (by apply mfX8_init) (fun _ _ => ?_)
  refine mo_gd ?_
  refine mo_letv (fun _ => ?_)
  refine mfX2_putsAhead_L19 _ _ _ _ (fun _ _ => ?_) _ _ _ _
  refine mo_jn (fun j_ => ∀ ( x13 : Option Nat ) ( t14 : cS ), MO t14 (j_ x13 t14)) (fun x13 t14 => ?_) (fun j15 hj15 => ?_)
  · refine mo_gd ?_
    refine mo_letS cMo_sR (fun _ => ?_)
    refine mo_jn (fun j_ => ∀ ( t17 : cS ), MO t17 (j_ t17)) (fun t17 => ?_) (fun j18 hj18 => ?_)
    · refine mo_gd ?_
      refine mo_letv (fun _ => ?_)
      refine mo_jn (fun j_ => ∀ ( x20 : Option Nat ) ( t21 : cS ), MO t21 (j_ x20 t21)) (fun x20 t21 => ?_) (fun j22 hj22 => ?_)
      · refine mo_gd ?_
        refine mo_letS cMo_sR (fun _ => ?_)
        refine mo_gd ?_
        refine mo_letv (fun _ => ?_)
        refine mo_gd ?_
        refine mo_letS cMo_sI (fun _ => ?_)
        exact mo_some
      · refine mo_onul ?_ (fun _ => ?_)
        · exact hj22 _ _
        · refine mo_gd ?_
          refine mo_letv (fun _ => ?_)
          exact hj22 _ _
    · refine mo_onul ?_ (fun _ => ?_)
      · refine mo_gd ?_
        refine mo_letS cMo_sR (fun _ => ?_)
        exact hj18 _
      · refine mo_gd ?_
        refine mo_letS cMo_sR (fun _ => ?_)
        exact hj18 _
  · refine mo_onul ?_ (fun _ => ?_)
    · refine mo_gd ?_
      refine mo_letv (fun _ => ?_)
      exact hj15 _ _
    · refine mo_gd ?_
      refine mo_letv (fun _ => ?_)
      exact hj15 _ _
set_option maxHeartbeats 4000000 in
theorem wX2_putsAhead (l : Launch) (Y : cY) (hl : l.stackTraces = false) (hY : ∀ q, q < Y.2.2.2.2.size → ¬ Y.2.2.2.1 q) (v0 : Nat) (v1 : Option Nat) (v2 : Option Nat) (t : cS) : cFn l Y yX2_putsAhead (ws_ yX2_putsAhead cX2_putsAhead 6 none) 4 [.ref v0, vr v1, vr v2] t (fX2_putsAhead v0 v1 v2 t) rV := by
  refine cmet (av := [.ref v0, vr v1, vr v2]) (mfX2_putsAhead v0 v1 v2 t) hl hY (by decide +kernel) (lg_le (List.forall_mem_cons.mpr ⟨rfl, List.forall_mem_cons.mpr ⟨(cat_vr _), List.forall_mem_cons.mpr ⟨(cat_vr _), fun _ h => absurd h List.not_mem_nil⟩⟩⟩) (Nat.le_of_ble_eq_true rfl)) (lv_args_cat (List.forall_mem_cons.mpr ⟨rfl, List.forall_mem_cons.mpr ⟨(cat_vr _), List.forall_mem_cons.mpr ⟨(cat_vr _), fun _ h => absurd h List.not_mem_nil⟩⟩⟩)) ?_
  intro X ad0 hln hC hnL hrt hnm hT hmd
  subst hln
  have hG := hC.1
  rw [lv_args_s (List.forall_mem_cons.mpr ⟨rfl, List.forall_mem_cons.mpr ⟨(cat_vr _), List.forall_mem_cons.mpr ⟨(cat_vr _), fun _ h => absurd h List.not_mem_nil⟩⟩⟩)]
  show GC X Y (cM Y X 6 t ad0 rV) _ t 0 [(0, .ref v0), (1, vr v1), (2, vr v2)] []
  unfold fX2_putsAhead
  refine gc_new hC (ci := 6) tyX8 tyX8_ok rfl in_X8 dX2_putsAhead_0 q398 q399 q82 (by decide +kernel) ?_
  refine gc_letS (fun s1 => ?_)
  refine gc_dup hG dX2_putsAhead_3 rfl ?_
  refine gc_aload_n hG (v := .ref v0) (refV_a _) dX2_putsAhead_4 rfl rfl ?_
  refine gc_aload_n hG (v := vr v1) (refV_x _) dX2_putsAhead_5 rfl rfl ?_
  refine gc_callI (f := fX8_init (cn t) (some v0) v1 s1) (As := [.ref v0, vr v1]) (rest := [.ref (cn t)]) (n := 2) (d' := 1) (b := (cn t)) hC hnL (wX8_init (gLn X) Y hl hY (cn t) (some v0) v1 s1) dX2_putsAhead_6 q400 q401 q82 q402 ⟨by decide +kernel, by decide +kernel⟩ rfl rfl (by decide) (by decide) (Nat.le_of_ble_eq_true rfl) (kn_V (fun r2 s3 => ?_)) kx_V
  refine gc_astore_n hG (refV_a _) dX2_putsAhead_9 rfl (Nat.le_of_ble_eq_true rfl) (lv' := [(0, _), (1, _), (2, _), (3, _)]) rfl ?_
  refine gc_null hG dX2_putsAhead_10 ?_
  refine gc_astore hG (Or.inl rfl) dX2_putsAhead_11 (Nat.le_of_ble_eq_true rfl) (lv' := [(0, _), (1, _), (2, _), (3, _), (4, _)]) rfl ?_
  refine gc_aload_n hG (v := .ref v0) (refV_a _) dX2_putsAhead_13 rfl rfl ?_
  refine gc_gd (fun hk => ?_)
  refine gc_get hC (ci := 2) (j := 1) (v := vr (cR s3 22 v0)) hk dX2_putsAhead_14 rfl (by decide) in_X2 q131 (fun _ h => h) rfl ?_
  refine gc_letr (fun x4 h_ => ?_)
  refine gc_astore hG (refV_x _) dX2_putsAhead_17 (Nat.le_of_ble_eq_true rfl) (lv' := [(0, _), (1, _), (2, _), (3, _), (4, _), (5, _)]) rfl ?_
  refine gc_sub [0, 2, 3, 4, 5] rfl ?_
  refine gfX2_putsAhead_L19 (s0 := t) (ad0 := ad0) hC hl hY hnL hrt hnm hT hmd v0 v2 (cn t)  _ (fun v4_11 t12 => ?_) FU none x4 s3
  refine gc_aload_n hG (v := .ref (cn t)) (refV_a _) dX2_putsAhead_52 rfl rfl ?_
  refine gc_aload hG (v := vr v4_11) (refV_x _) dX2_putsAhead_53 rfl ?_
  refine gc_jn (fun j_ => ∀ (x13 : Option Nat) (t14 : cS), GC X Y (cM Y X 6 t ad0 rV) (j_ x13 t14) t14 70 [(0, .ref v0), (3, .ref (cn t)), (4, vr v4_11)] [vr x13, .ref (cn t)]) (fun x13 t14 => ?_) (fun j15 hj15 => ?_)
  · refine gc_gd (fun hk => ?_)
    have pt := pt_R (s := t14) (f := 46) (a := (cn t)) (x := x13) rfl
    refine gc_putN hC tyX8 tyX8_ok nmX8 hk dX2_putsAhead_70 (ci := 6) (j := 1) (Or.inl (by decide)) rfl (by decide) in_X8 q409 (fun _ h => h) rfl (tyX8_ok 1 (by decide)) (nar_o x13) (fit_o x13) pt.1.1 pt.1.2.1 pt.1.2.2.1 pt.1.2.2.2 pt.2.1 pt.2.2.1 pt.2.2.2 ?_
    refine gc_letS (fun s16 => ?_)
    refine gc_aload hG (v := vr v4_11) (refV_x _) dX2_putsAhead_73 rfl ?_
    refine gc_jn (fun j_ => ∀  (t17 : cS), GC X Y (cM Y X 6 t ad0 rV) (j_ t17) t17 92 [(0, .ref v0), (3, .ref (cn t))] []) (fun t17 => ?_) (fun j18 hj18 => ?_)
    · refine gc_aload_n hG (v := .ref v0) (refV_a _) dX2_putsAhead_92 rfl rfl ?_
      refine gc_aload_n hG (v := .ref (cn t)) (refV_a _) dX2_putsAhead_93 rfl rfl ?_
      refine gc_gd (fun hk => ?_)
      refine gc_getN hC (ci := 6) (j := 1) (v := vr (cR t17 46 (cn t))) hk dX2_putsAhead_94 rfl (by decide) in_X8 q409 (fun _ h => h) rfl ?_
      refine gc_letr (fun x19 h_ => ?_)
      refine gc_jn (fun j_ => ∀ (x20 : Option Nat) (t21 : cS), GC X Y (cM Y X 6 t ad0 rV) (j_ x20 t21) t21 108 [(0, .ref v0)] [vr x20, .ref v0]) (fun x20 t21 => ?_) (fun j22 hj22 => ?_)
      · refine gc_gd (fun hk => ?_)
        have pt := pt_R (s := t21) (f := 23) (a := v0) (x := x20) rfl
        refine gc_put hC tyX2 tyX2_ok nmX2 hk dX2_putsAhead_108 (ci := 2) (j := 2) (Or.inl (by decide)) rfl (by decide) in_X2 q133 (fun _ h => h) rfl (tyX2_ok 2 (by decide)) (nar_o x20) (fit_o x20) pt.1.1 pt.1.2.1 pt.1.2.2.1 pt.1.2.2.2 pt.2.1 pt.2.2.1 pt.2.2.2 ?_
        refine gc_letS (fun s23 => ?_)
        refine gc_aload_n hG (v := .ref v0) (refV_a _) dX2_putsAhead_111 rfl rfl ?_
        refine gc_dup hG dX2_putsAhead_112 rfl ?_
        refine gc_gd (fun hk => ?_)
        refine gc_get hC (ci := 2) (j := 3) (v := .int (cI s23 24 v0)) hk dX2_putsAhead_113 rfl (by decide) in_X2 q134 (fun _ h => h) rfl ?_
        refine gc_letv (fun x24 h_ => ?_)
        refine gc_iconst hG (nI 1) dX2_putsAhead_116 (by decide) ?_
        refine gc_iadd hG dX2_putsAhead_117 ?_
        refine gc_gd (fun hk => ?_)
        have pt := pt_I (s := s23) (f := 24) (a := v0) (x := (x24 + (nI 1))) rfl
        refine gc_put hC tyX2 tyX2_ok nmX2 hk dX2_putsAhead_118 (ci := 2) (j := 3) (Or.inl (by decide)) rfl (by decide) in_X2 q134 (fun _ h => h) rfl (tyX2_ok 3 (by decide)) (fun _ => rfl) (fun _ => rfl) pt.1.1 pt.1.2.1 pt.1.2.2.1 pt.1.2.2.2 pt.2.1 pt.2.2.1 pt.2.2.2 ?_
        refine gc_letS (fun s25 => ?_)
        exact gc_vret hC hrt rfl dX2_putsAhead_121
      · refine gc_ifnonnull hG (tgt := 104) dX2_putsAhead_97 (by decide) (fun h_ => ?_) (fun a26 h_ => ?_)
        · subst h_
          refine gc_aload_n hG (v := .ref (cn t)) (refV_a _) dX2_putsAhead_100 rfl rfl ?_
          refine gc_goto hG (tgt := 108) dX2_putsAhead_101 (by decide) ?_
          refine gc_sub [0] rfl ?_
          exact hj22 (some (cn t)) t17
        · subst h_
          refine gc_aload_n hG (v := .ref v0) (refV_a _) dX2_putsAhead_104 rfl rfl ?_
          refine gc_gd (fun hk => ?_)
          refine gc_get hC (ci := 2) (j := 2) (v := vr (cR t17 23 v0)) hk dX2_putsAhead_105 rfl (by decide) in_X2 q133 (fun _ h => h) rfl ?_
          refine gc_letr (fun x27 h_ => ?_)
          refine gc_sub [0] rfl ?_
          exact hj22 x27 t17
    · refine gc_ifnonnull hG (tgt := 86) dX2_putsAhead_75 (by decide) (fun h_ => ?_) (fun a28 h_ => ?_)
      · subst h_
        refine gc_aload_n hG (v := .ref v0) (refV_a _) dX2_putsAhead_78 rfl rfl ?_
        refine gc_aload_n hG (v := .ref (cn t)) (refV_a _) dX2_putsAhead_79 rfl rfl ?_
        refine gc_gd (fun hk => ?_)
        have pt := pt_R (s := s16) (f := 22) (a := v0) (x := (some (cn t))) rfl
        refine gc_put hC tyX2 tyX2_ok nmX2 hk dX2_putsAhead_80 (ci := 2) (j := 1) (Or.inl (by decide)) rfl (by decide) in_X2 q131 (fun _ h => h) rfl (tyX2_ok 1 (by decide)) (nar_o (some (cn t))) (fit_o (some (cn t))) pt.1.1 pt.1.2.1 pt.1.2.2.1 pt.1.2.2.2 pt.2.1 pt.2.2.1 pt.2.2.2 ?_
        refine gc_letS (fun s29 => ?_)
        refine gc_goto hG (tgt := 92) dX2_putsAhead_83 (by decide) ?_
        refine gc_sub [0, 1] rfl ?_
        exact hj18 s29
      · subst h_
        refine gc_aload hG (v := .ref a28) (refV_a _) dX2_putsAhead_86 rfl ?_
        refine gc_aload_n hG (v := .ref (cn t)) (refV_a _) dX2_putsAhead_88 rfl rfl ?_
        refine gc_gd (fun hk => ?_)
        have pt := pt_R (s := s16) (f := 46) (a := a28) (x := (some (cn t))) rfl
        refine gc_putN hC tyX8 tyX8_ok nmX8 hk dX2_putsAhead_89 (ci := 6) (j := 1) (Or.inl (by decide)) rfl (by decide) in_X8 q409 (fun _ h => h) rfl (tyX8_ok 1 (by decide)) (nar_o (some (cn t))) (fit_o (some (cn t))) pt.1.1 pt.1.2.1 pt.1.2.2.1 pt.1.2.2.2 pt.2.1 pt.2.2.1 pt.2.2.2 ?_
        refine gc_letS (fun s30 => ?_)
        refine gc_sub [0, 1] rfl ?_
        exact hj18 s30
  · refine gc_ifnonnull hG (tgt := 65) dX2_putsAhead_55 (by decide) (fun h_ => ?_) (fun a31 h_ => ?_)
    · subst h_
      refine gc_aload_n hG (v := .ref v0) (refV_a _) dX2_putsAhead_58 rfl rfl ?_
      refine gc_gd (fun hk => ?_)
      refine gc_get hC (ci := 2) (j := 1) (v := vr (cR t12 22 v0)) hk dX2_putsAhead_59 rfl (by decide) in_X2 q131 (fun _ h => h) rfl ?_
      refine gc_letr (fun x32 h_ => ?_)
      refine gc_goto hG (tgt := 70) dX2_putsAhead_62 (by decide) ?_
      exact hj15 x32 t12
    · subst h_
      refine gc_aload hG (v := .ref a31) (refV_a _) dX2_putsAhead_65 rfl ?_
      refine gc_gd (fun hk => ?_)
      refine gc_getN hC (ci := 6) (j := 1) (v := vr (cR t12 46 a31)) hk dX2_putsAhead_67 rfl (by decide) in_X8 q409 (fun _ h => h) rfl ?_
      refine gc_letr (fun x33 h_ => ?_)
      exact hj15 x33 t12
def fX1_timed (v0 : Nat) (v1 : Option Nat) (t : cS) : Option (Unit × cS) :=
  gd (cK t v0 = 2) (
  letv (cR t 12 v0) (fun x1 =>
  rv x1 (fun a2 =>
  gd (cK t a2 = 3) (
  letv (cI t 24 a2) (fun x3 =>
  if x3 = (nI 10) then
    (some ((), t))
  else
    gd (cK t v0 = 2) (
    letv (cR t 12 v0) (fun x4 =>
    rv v1 (fun a6 =>
    letv (sLR t 35 a6) (fun s5 =>
    rv x4 (fun a7 =>
    gd (cK s5 a7 = 3) (
    ob (fX2_putsAhead a7 (some a6) (some (cn t)) s5) (fun r8 s9 =>
    (some ((), s9))
    )
    )
    )
    )
    )
    )
    )
  )
  )
  )
  )
  )
theorem mfX1_timed (v0 : Nat) (v1 : Option Nat) (t : cS) : MO t (fX1_timed v0 v1 t) := by
  unfold fX1_timed
  refine mo_gd ?_
  refine mo_letv (fun _ => ?_)
  refine mo_rv (fun _ => ?_)
  refine mo_gd ?_
  refine mo_letv (fun _ => ?_)
  refine mo_ite ?_ ?_
  · exact mo_some
  · refine mo_gd ?_
    refine mo_letv (fun _ => ?_)
    refine mo_rv (fun _ => ?_)
    refine mo_letS cMo_sLR (fun _ => ?_)
    refine mo_rv (fun _ => ?_)
    refine mo_gd ?_
    refine mo_ob (by apply mfX2_putsAhead) (fun _ _ => ?_)
    exact mo_some
set_option maxHeartbeats 4000000 in
theorem wX1_timed (l : Launch) (Y : cY) (hl : l.stackTraces = false) (hY : ∀ q, q < Y.2.2.2.2.size → ¬ Y.2.2.2.1 q) (v0 : Nat) (v1 : Option Nat) (t : cS) : cFn l Y yX1_timed (ws_ yX1_timed cX1_timed 2 none) 5 [.ref v0, vr v1] t (fX1_timed v0 v1 t) rV := by
  refine cmet (av := [.ref v0, vr v1]) (mfX1_timed v0 v1 t) hl hY (by decide +kernel) (lg_le (List.forall_mem_cons.mpr ⟨rfl, List.forall_mem_cons.mpr ⟨(cat_vr _), fun _ h => absurd h List.not_mem_nil⟩⟩) (Nat.le_of_ble_eq_true rfl)) (lv_args_cat (List.forall_mem_cons.mpr ⟨rfl, List.forall_mem_cons.mpr ⟨(cat_vr _), fun _ h => absurd h List.not_mem_nil⟩⟩)) ?_
  intro X ad0 hln hC hnL hrt hnm hT hmd
  subst hln
  have hG := hC.1
  rw [lv_args_s (List.forall_mem_cons.mpr ⟨rfl, List.forall_mem_cons.mpr ⟨(cat_vr _), fun _ h => absurd h List.not_mem_nil⟩⟩)]
  show GC X Y (cM Y X 2 t ad0 rV) _ t 0 [(0, .ref v0), (1, vr v1)] []
  unfold fX1_timed
  refine gc_aload_n hG (v := .ref v0) (refV_a _) dX1_timed_0 rfl rfl ?_
  refine gc_gd (fun hk => ?_)
  refine gc_get hC (ci := 1) (j := 6) (v := vr (cR t 12 v0)) hk dX1_timed_1 rfl (by decide) in_X1 q174 (fun _ h => h) rfl ?_
  refine gc_letr (fun x1 h_ => ?_)
  refine gc_rv (fun a2 h_ => ?_)
  subst h_
  refine gc_gd (fun hk => ?_)
  refine gc_getN hC (ci := 2) (j := 3) (v := .int (cI t 24 a2)) hk dX1_timed_4 rfl (by decide) in_X2 q135 (fun _ h => h) rfl ?_
  refine gc_letv (fun x3 h_ => ?_)
  refine gc_bipush hG (nI 10) dX1_timed_7 (by decide) ?_
  refine gc_icmp_ne hG (tgt := 13) dX1_timed_9 (by decide) ?_ ?_
  · exact gc_vret hC hrt rfl dX1_timed_12
  · refine gc_aload_n hG (v := .ref v0) (refV_a _) dX1_timed_13 rfl rfl ?_
    refine gc_gd (fun hk => ?_)
    refine gc_get hC (ci := 1) (j := 6) (v := vr (cR t 12 v0)) hk dX1_timed_14 rfl (by decide) in_X1 q174 (fun _ h => h) rfl ?_
    refine gc_letr (fun x4 h_ => ?_)
    refine gc_aload_n hG (v := vr v1) (refV_x _) dX1_timed_17 rfl rfl ?_
    refine gc_aload_n hG (v := vr v1) (refV_x _) dX1_timed_18 rfl rfl ?_
    refine gc_rv (fun a6 h_ => ?_)
    subst h_
    refine gc_lamR (k := 35) hC hnL hmd (List.mem_of_getElem? (i := 5) rfl) rfl rfl (by decide +kernel) q1709 (by decide) dX1_timed_19 (by simp [cat_vr, cat_r, cat_i, cat_n]) ?_
    refine gc_letS (fun s5 => ?_)
    refine gc_rv (fun a7 h_ => ?_)
    subst h_
    refine gc_gd (fun hk => ?_)
    refine gc_callV (f := fX2_putsAhead a7 (some a6) (some (cn t)) s5) (As := [.ref a6, .ref (cn t)]) (rest := []) (n := 2) (d' := 4) (b := a7) hC hnL (wX2_putsAhead (gLn X) Y hl hY a7 (some a6) (some (cn t)) s5) hk (ci := 2) rfl dX1_timed_24 q920 q921 q922 q76 q923 ⟨by decide +kernel, by decide +kernel⟩ rfl (by decide) (by decide) (Nat.le_of_ble_eq_true rfl) (kn_V (fun r8 s9 => ?_)) kx_V
    exact gc_vret hC hrt rfl dX1_timed_27
def fX3_delays (v0 : Nat) (v1 : Option Nat) (v2 : Option Nat) (t : cS) : Option (Unit × cS) :=
  rv v2 (fun a1 =>
  gd (cK t a1 = 6) (
  letv (cI t 44 a1) (fun x2 =>
  if 0 < x2 then
    gd (cK t v0 = 4) (
    letv (cR t 25 v0) (fun x3 =>
    letv (sN t 13 0 3) (fun s4 =>
    rv v1 (fun a5 =>
    gd (cK s4 a5 = 5) (
    letv (cI s4 26 a5) (fun x6 =>
    gd (cK s4 v0 = 4) (
    letv (cR s4 25 v0) (fun x7 =>
    rv x7 (fun a8 =>
    gd (cK s4 a8 = 2) (
    letv (cI s4 10 a8) (fun x9 =>
    gd (cK s4 a1 = 6) (
    letv (cI s4 44 a1) (fun x10 =>
    gd (cK s4 a1 = 6) (
    letv (cI s4 44 a1) (fun x11 =>
    ob (fX15_init (cn t) x6 ((x9 + (nI 1)) + (irm x10 (nI 8))) (x11 - (nI 1)) s4) (fun r12 s13 =>
    rv x3 (fun a14 =>
    gd (cK s13 a14 = 2) (
    ob (fX1_timed a14 (some (cn t)) s13) (fun r15 s16 =>
    (some ((), s16))
    )
    )
    )
    )
    )
    )
    )
    )
    )
    )
    )
    )
    )
    )
    )
    )
    )
    )
    )
  else
    (some ((), t))
  )
  )
  )
theorem mfX3_delays (v0 : Nat) (v1 : Option Nat) (v2 : Option Nat) (t : cS) : MO t (fX3_delays v0 v1 v2 t) := by
  unfold fX3_delays
  refine mo_rv (fun _ => ?_)
  refine mo_gd ?_
  refine mo_letv (fun _ => ?_)
  refine mo_ite ?_ ?_
  · refine mo_gd ?_
    refine mo_letv (fun _ => ?_)
    refine mo_letS cMo_sN (fun _ => ?_)
    refine mo_rv (fun _ => ?_)
    refine mo_gd ?_
    refine mo_letv (fun _ => ?_)
    refine mo_gd ?_
    refine mo_letv (fun _ => ?_)
    refine mo_rv (fun _ => ?_)
    refine mo_gd ?_
    refine mo_letv (fun _ => ?_)
    refine mo_gd ?_
    refine mo_letv (fun _ => ?_)
    refine mo_gd ?_
    refine mo_letv (fun _ => ?_)
    refine mo_ob (by apply mfX15_init) (fun _ _ => ?_)
    refine mo_rv (fun _ => ?_)
    refine mo_gd ?_
    refine mo_ob (by apply mfX1_timed) (fun _ _ => ?_)
    exact mo_some
  · exact mo_some
set_option maxHeartbeats 4000000 in
theorem wX3_delays (l : Launch) (Y : cY) (hl : l.stackTraces = false) (hY : ∀ q, q < Y.2.2.2.2.size → ¬ Y.2.2.2.1 q) (v0 : Nat) (v1 : Option Nat) (v2 : Option Nat) (t : cS) : cFn l Y yX3_delays (ws_ yX3_delays cX3_delays 3 none) 6 [.ref v0, vr v1, vr v2] t (fX3_delays v0 v1 v2 t) rV := by
  refine cmet (av := [.ref v0, vr v1, vr v2]) (mfX3_delays v0 v1 v2 t) hl hY (by decide +kernel) (lg_le (List.forall_mem_cons.mpr ⟨rfl, List.forall_mem_cons.mpr ⟨(cat_vr _), List.forall_mem_cons.mpr ⟨(cat_vr _), fun _ h => absurd h List.not_mem_nil⟩⟩⟩) (Nat.le_of_ble_eq_true rfl)) (lv_args_cat (List.forall_mem_cons.mpr ⟨rfl, List.forall_mem_cons.mpr ⟨(cat_vr _), List.forall_mem_cons.mpr ⟨(cat_vr _), fun _ h => absurd h List.not_mem_nil⟩⟩⟩)) ?_
  intro X ad0 hln hC hnL hrt hnm hT hmd
  subst hln
  have hG := hC.1
  rw [lv_args_s (List.forall_mem_cons.mpr ⟨rfl, List.forall_mem_cons.mpr ⟨(cat_vr _), List.forall_mem_cons.mpr ⟨(cat_vr _), fun _ h => absurd h List.not_mem_nil⟩⟩⟩)]
  show GC X Y (cM Y X 3 t ad0 rV) _ t 0 [(0, .ref v0), (1, vr v1), (2, vr v2)] []
  unfold fX3_delays
  refine gc_aload_n hG (v := vr v2) (refV_x _) dX3_delays_0 rfl rfl ?_
  refine gc_rv (fun a1 h_ => ?_)
  subst h_
  refine gc_gd (fun hk => ?_)
  refine gc_getN hC (ci := 5) (j := 1) (v := .int (cI t 44 a1)) hk dX3_delays_1 rfl (by decide) in_X7 q381 (fun _ h => h) rfl ?_
  refine gc_letv (fun x2 h_ => ?_)
  refine gc_if_le hG (tgt := 48) dX3_delays_4 (by decide) ?_ ?_
  · refine gc_aload_n hG (v := .ref v0) (refV_a _) dX3_delays_7 rfl rfl ?_
    refine gc_gd (fun hk => ?_)
    refine gc_get hC (ci := 3) (j := 0) (v := vr (cR t 25 v0)) hk dX3_delays_8 rfl (by decide) in_X3 q153 (fun _ h => h) rfl ?_
    refine gc_letr (fun x3 h_ => ?_)
    refine gc_new hC (ci := 12) tyX15 tyX15_ok rfl in_X15 dX3_delays_11 q891 q892 q99 (by decide +kernel) ?_
    refine gc_letS (fun s4 => ?_)
    refine gc_dup hG dX3_delays_14 rfl ?_
    refine gc_aload_n hG (v := vr v1) (refV_x _) dX3_delays_15 rfl rfl ?_
    refine gc_rv (fun a5 h_ => ?_)
    subst h_
    refine gc_gd (fun hk => ?_)
    refine gc_getN hC (ci := 4) (j := 0) (v := .int (cI s4 26 a5)) hk dX3_delays_16 rfl (by decide) in_X5 q282 (fun _ h => h) rfl ?_
    refine gc_letv (fun x6 h_ => ?_)
    refine gc_aload_n hG (v := .ref v0) (refV_a _) dX3_delays_19 rfl rfl ?_
    refine gc_gd (fun hk => ?_)
    refine gc_get hC (ci := 3) (j := 0) (v := vr (cR s4 25 v0)) hk dX3_delays_20 rfl (by decide) in_X3 q153 (fun _ h => h) rfl ?_
    refine gc_letr (fun x7 h_ => ?_)
    refine gc_rv (fun a8 h_ => ?_)
    subst h_
    refine gc_gd (fun hk => ?_)
    refine gc_getN hC (ci := 1) (j := 4) (v := .int (cI s4 10 a8)) hk dX3_delays_23 rfl (by decide) in_X1 q171 (fun _ h => h) rfl ?_
    refine gc_letv (fun x9 h_ => ?_)
    refine gc_iconst hG (nI 1) dX3_delays_26 (by decide) ?_
    refine gc_iadd hG dX3_delays_27 ?_
    refine gc_aload_n hG (v := .ref a1) (refV_a _) dX3_delays_28 rfl rfl ?_
    refine gc_gd (fun hk => ?_)
    refine gc_getN hC (ci := 5) (j := 1) (v := .int (cI s4 44 a1)) hk dX3_delays_29 rfl (by decide) in_X7 q381 (fun _ h => h) rfl ?_
    refine gc_letv (fun x10 h_ => ?_)
    refine gc_bipush hG (nI 8) dX3_delays_32 (by decide) ?_
    refine gc_irem hG dX3_delays_34 (by decide) ?_
    refine gc_iadd hG dX3_delays_35 ?_
    refine gc_aload_n hG (v := .ref a1) (refV_a _) dX3_delays_36 rfl rfl ?_
    refine gc_gd (fun hk => ?_)
    refine gc_getN hC (ci := 5) (j := 1) (v := .int (cI s4 44 a1)) hk dX3_delays_37 rfl (by decide) in_X7 q381 (fun _ h => h) rfl ?_
    refine gc_letv (fun x11 h_ => ?_)
    refine gc_iconst hG (nI 1) dX3_delays_40 (by decide) ?_
    refine gc_isub hG dX3_delays_41 ?_
    refine gc_callI (f := fX15_init (cn t) x6 ((x9 + (nI 1)) + (irm x10 (nI 8))) (x11 - (nI 1)) s4) (As := [.int x6, .int ((x9 + (nI 1)) + (irm x10 (nI 8))), .int (x11 - (nI 1))]) (rest := [.ref (cn t), vr x3]) (n := 3) (d' := 1) (b := (cn t)) hC hnL (wX15_init (gLn X) Y hl hY (cn t) x6 ((x9 + (nI 1)) + (irm x10 (nI 8))) (x11 - (nI 1)) s4) dX3_delays_42 q893 q894 q99 q895 ⟨by decide +kernel, by decide +kernel⟩ rfl rfl (by decide) (by decide) (by simp [cat_vr, cat_r, cat_i, cat_n]) (kn_V (fun r12 s13 => ?_)) kx_V
    refine gc_rv (fun a14 h_ => ?_)
    subst h_
    refine gc_gd (fun hk => ?_)
    refine gc_callV (f := fX1_timed a14 (some (cn t)) s13) (As := [.ref (cn t)]) (rest := []) (n := 1) (d' := 5) (b := a14) hC hnL (wX1_timed (gLn X) Y hl hY a14 (some (cn t)) s13) hk (ci := 1) rfl dX3_delays_45 q914 q915 q916 q75 q917 ⟨by decide +kernel, by decide +kernel⟩ rfl (by decide) (by decide) (Nat.le_of_ble_eq_true rfl) (kn_V (fun r15 s16 => ?_)) kx_V
    exact gc_vret hC hrt rfl dX3_delays_48
  · exact gc_vret hC hrt rfl dX3_delays_48
def fX3_from (v0 : Nat) (v1 : Option Nat) (t : cS) : Option (Int32 × cS) :=
  rv v1 (fun a1 =>
  gd (cK t a1 = 6 ∨ cK t a1 = 9) (
  letv (cI t 43 a1) (fun x2 =>
  (some (x2, t))
  )
  )
  )
theorem mfX3_from (v0 : Nat) (v1 : Option Nat) (t : cS) : MO t (fX3_from v0 v1 t) := by
  unfold fX3_from
  refine mo_rv (fun _ => ?_)
  refine mo_gd ?_
  refine mo_letv (fun _ => ?_)
  exact mo_some
set_option maxHeartbeats 4000000 in
theorem wX3_from (l : Launch) (Y : cY) (hl : l.stackTraces = false) (hY : ∀ q, q < Y.2.2.2.2.size → ¬ Y.2.2.2.1 q) (v0 : Nat) (v1 : Option Nat) (t : cS) : cFn l Y yX3_from (ws_ yX3_from cX3_from 2 (some .int)) 1 [.ref v0, vr v1] t (fX3_from v0 v1 t) rI := by
  refine cmet (av := [.ref v0, vr v1]) (mfX3_from v0 v1 t) hl hY (by decide +kernel) (lg_le (List.forall_mem_cons.mpr ⟨rfl, List.forall_mem_cons.mpr ⟨(cat_vr _), fun _ h => absurd h List.not_mem_nil⟩⟩) (Nat.le_of_ble_eq_true rfl)) (lv_args_cat (List.forall_mem_cons.mpr ⟨rfl, List.forall_mem_cons.mpr ⟨(cat_vr _), fun _ h => absurd h List.not_mem_nil⟩⟩)) ?_
  intro X ad0 hln hC hnL hrt hnm hT hmd
  subst hln
  have hG := hC.1
  rw [lv_args_s (List.forall_mem_cons.mpr ⟨rfl, List.forall_mem_cons.mpr ⟨(cat_vr _), fun _ h => absurd h List.not_mem_nil⟩⟩)]
  show GC X Y (cM Y X 2 t ad0 rI) _ t 0 [(0, .ref v0), (1, vr v1)] []
  unfold fX3_from
  refine gc_aload_n hG (v := vr v1) (refV_x _) dX3_from_0 rfl rfl ?_
  refine gc_rv (fun a1 h_ => ?_)
  subst h_
  refine gc_gd (fun hk => ?_)
  refine gc_or2 hk (fun hk h_ => gc_getN hC (ci := 5) (j := 0) (v := .int (cI t 43 a1)) hk dX3_from_1 rfl (by decide) in_X7 q383 (fun _ h => h) rfl h_) (fun hk h_ => gc_getN hC (ci := 8) (j := 0) (v := .int (cI t 43 a1)) hk dX3_from_1 rfl (by decide) in_X10 q383 (fun _ h => h) rfl h_) ?_
  refine gc_letv (fun x2 h_ => ?_)
  exact gc_iret hC hrt rfl rfl dX3_from_4
def fX3_echoes (v0 : Nat) (v1 : Option Nat) (v2 : Option Nat) (t : cS) : Option (Unit × cS) :=
  gd (cK t v0 = 4) (
  ob (fX3_from v0 v2 t) (fun r1 s2 =>
  rv v2 (fun a3 =>
  gd (cK s2 a3 = 6) (
  letv (cI s2 44 a3) (fun x4 =>
  if 0 < x4 then
    if r1 < 0 then
      (some ((), s2))
    else
      gd (cK s2 v0 = 4) (
      letv (cR s2 25 v0) (fun x5 =>
      gd (cK s2 v0 = 4) (
      letv (cR s2 25 v0) (fun x6 =>
      rv x6 (fun a7 =>
      gd (cK s2 a7 = 2) (
      letv (cR s2 6 a7) (fun x8 =>
      rv x8 (fun a9 =>
      gd (cK s2 a9 = 23 ∧ cIn s2 a9 r1) (
      letv (cR s2 (er (r1).toNatClampNeg) a9) (fun x10 =>
      letv (sN s2 6 0 2) (fun s11 =>
      rv v1 (fun a12 =>
      gd (cK s11 a12 = 5) (
      letv (cI s11 26 a12) (fun x13 =>
      gd (cK s11 a3 = 6) (
      letv (cI s11 44 a3) (fun x14 =>
      ob (fX7_init (cn s2) x13 (x14 - (nI 1)) s11) (fun r15 s16 =>
      rv x5 (fun a17 =>
      gd (cK s16 a17 = 2) (
      ob (fX1_sends a17 x10 (some (cn s2)) s16) (fun r18 s19 =>
      (some ((), s19))
      )
      )
      )
      )
      )
      )
      )
      )
      )
      )
      )
      )
      )
      )
      )
      )
      )
      )
      )
      )
  else
    (some ((), s2))
  )
  )
  )
  )
  )
theorem mfX3_echoes (v0 : Nat) (v1 : Option Nat) (v2 : Option Nat) (t : cS) : MO t (fX3_echoes v0 v1 v2 t) := by
  unfold fX3_echoes
  refine mo_gd ?_
  refine mo_ob (by apply mfX3_from) (fun _ _ => ?_)
  refine mo_rv (fun _ => ?_)
  refine mo_gd ?_
  refine mo_letv (fun _ => ?_)
  refine mo_ite ?_ ?_
  · refine mo_ite ?_ ?_
    · exact mo_some
    · refine mo_gd ?_
      refine mo_letv (fun _ => ?_)
      refine mo_gd ?_
      refine mo_letv (fun _ => ?_)
      refine mo_rv (fun _ => ?_)
      refine mo_gd ?_
      refine mo_letv (fun _ => ?_)
      refine mo_rv (fun _ => ?_)
      refine mo_gd ?_
      refine mo_letv (fun _ => ?_)
      refine mo_letS cMo_sN (fun _ => ?_)
      refine mo_rv (fun _ => ?_)
      refine mo_gd ?_
      refine mo_letv (fun _ => ?_)
      refine mo_gd ?_
      refine mo_letv (fun _ => ?_)
      refine mo_ob (by apply mfX7_init) (fun _ _ => ?_)
      refine mo_rv (fun _ => ?_)
      refine mo_gd ?_
      refine mo_ob (by apply mfX1_sends) (fun _ _ => ?_)
      exact mo_some
  · exact mo_some
set_option maxHeartbeats 4000000 in
theorem wX3_echoes (l : Launch) (Y : cY) (hl : l.stackTraces = false) (hY : ∀ q, q < Y.2.2.2.2.size → ¬ Y.2.2.2.1 q) (v0 : Nat) (v1 : Option Nat) (v2 : Option Nat) (t : cS) : cFn l Y yX3_echoes (ws_ yX3_echoes cX3_echoes 4 none) 4 [.ref v0, vr v1, vr v2] t (fX3_echoes v0 v1 v2 t) rV := by
  refine cmet (av := [.ref v0, vr v1, vr v2]) (mfX3_echoes v0 v1 v2 t) hl hY (by decide +kernel) (lg_le (List.forall_mem_cons.mpr ⟨rfl, List.forall_mem_cons.mpr ⟨(cat_vr _), List.forall_mem_cons.mpr ⟨(cat_vr _), fun _ h => absurd h List.not_mem_nil⟩⟩⟩) (Nat.le_of_ble_eq_true rfl)) (lv_args_cat (List.forall_mem_cons.mpr ⟨rfl, List.forall_mem_cons.mpr ⟨(cat_vr _), List.forall_mem_cons.mpr ⟨(cat_vr _), fun _ h => absurd h List.not_mem_nil⟩⟩⟩)) ?_
  intro X ad0 hln hC hnL hrt hnm hT hmd
  subst hln
  have hG := hC.1
  rw [lv_args_s (List.forall_mem_cons.mpr ⟨rfl, List.forall_mem_cons.mpr ⟨(cat_vr _), List.forall_mem_cons.mpr ⟨(cat_vr _), fun _ h => absurd h List.not_mem_nil⟩⟩⟩)]
  show GC X Y (cM Y X 4 t ad0 rV) _ t 0 [(0, .ref v0), (1, vr v1), (2, vr v2)] []
  unfold fX3_echoes
  refine gc_aload_n hG (v := .ref v0) (refV_a _) dX3_echoes_0 rfl rfl ?_
  refine gc_aload_n hG (v := vr v2) (refV_x _) dX3_echoes_1 rfl rfl ?_
  refine gc_gd (fun hk => ?_)
  refine gc_callV (f := fX3_from v0 v2 t) (As := [vr v2]) (rest := []) (n := 1) (d' := 1) (b := v0) hC hnL (wX3_from (gLn X) Y hl hY v0 v2 t) hk (ci := 3) rfl dX3_echoes_2 q776 q778 qs11 q77 q779 ⟨by decide +kernel, by decide +kernel⟩ rfl (by decide) (by decide) (Nat.le_of_ble_eq_true rfl) (kn_I (fun r1 s2 => ?_)) kx_I
  refine gc_istore_n hG dX3_echoes_5 rfl (Nat.le_of_ble_eq_true rfl) (lv' := [(0, _), (1, _), (2, _), (3, _)]) rfl ?_
  refine gc_aload_n hG (v := vr v2) (refV_x _) dX3_echoes_6 rfl rfl ?_
  refine gc_rv (fun a3 h_ => ?_)
  subst h_
  refine gc_gd (fun hk => ?_)
  refine gc_getN hC (ci := 5) (j := 1) (v := .int (cI s2 44 a3)) hk dX3_echoes_7 rfl (by decide) in_X7 q381 (fun _ h => h) rfl ?_
  refine gc_letv (fun x4 h_ => ?_)
  refine gc_if_le hG (tgt := 51) dX3_echoes_10 (by decide) ?_ ?_
  · refine gc_iload_n hG dX3_echoes_13 rfl rfl ?_
    refine gc_if_lt hG (tgt := 51) dX3_echoes_14 (by decide) ?_ ?_
    · exact gc_vret hC hrt rfl dX3_echoes_51
    · refine gc_aload_n hG (v := .ref v0) (refV_a _) dX3_echoes_17 rfl rfl ?_
      refine gc_gd (fun hk => ?_)
      refine gc_get hC (ci := 3) (j := 0) (v := vr (cR s2 25 v0)) hk dX3_echoes_18 rfl (by decide) in_X3 q153 (fun _ h => h) rfl ?_
      refine gc_letr (fun x5 h_ => ?_)
      refine gc_aload_n hG (v := .ref v0) (refV_a _) dX3_echoes_21 rfl rfl ?_
      refine gc_gd (fun hk => ?_)
      refine gc_get hC (ci := 3) (j := 0) (v := vr (cR s2 25 v0)) hk dX3_echoes_22 rfl (by decide) in_X3 q153 (fun _ h => h) rfl ?_
      refine gc_letr (fun x6 h_ => ?_)
      refine gc_rv (fun a7 h_ => ?_)
      subst h_
      refine gc_gd (fun hk => ?_)
      refine gc_getN hC (ci := 1) (j := 0) (v := vr (cR s2 6 a7)) hk dX3_echoes_25 rfl (by decide) in_X1 q159 (fun _ h => h) rfl ?_
      refine gc_letr (fun x8 h_ => ?_)
      refine gc_iload_n hG dX3_echoes_28 rfl rfl ?_
      refine gc_rv (fun a9 h_ => ?_)
      subst h_
      refine gc_gd (fun hk => ?_)
      refine gc_aald hC hk.1 (by decide) (by decide) (t0 := 3) rfl hk.2 dX3_echoes_29 ?_
      refine gc_letr (fun x10 h_ => ?_)
      refine gc_new hC (ci := 5) tyX7 tyX7_ok rfl in_X7 dX3_echoes_30 q770 q372 q81 (by decide +kernel) ?_
      refine gc_letS (fun s11 => ?_)
      refine gc_dup hG dX3_echoes_33 rfl ?_
      refine gc_aload_n hG (v := vr v1) (refV_x _) dX3_echoes_34 rfl rfl ?_
      refine gc_rv (fun a12 h_ => ?_)
      subst h_
      refine gc_gd (fun hk => ?_)
      refine gc_getN hC (ci := 4) (j := 0) (v := .int (cI s11 26 a12)) hk dX3_echoes_35 rfl (by decide) in_X5 q282 (fun _ h => h) rfl ?_
      refine gc_letv (fun x13 h_ => ?_)
      refine gc_aload_n hG (v := .ref a3) (refV_a _) dX3_echoes_38 rfl rfl ?_
      refine gc_gd (fun hk => ?_)
      refine gc_getN hC (ci := 5) (j := 1) (v := .int (cI s11 44 a3)) hk dX3_echoes_39 rfl (by decide) in_X7 q381 (fun _ h => h) rfl ?_
      refine gc_letv (fun x14 h_ => ?_)
      refine gc_iconst hG (nI 1) dX3_echoes_42 (by decide) ?_
      refine gc_isub hG dX3_echoes_43 ?_
      refine gc_callI (f := fX7_init (cn s2) x13 (x14 - (nI 1)) s11) (As := [.int x13, .int (x14 - (nI 1))]) (rest := [.ref (cn s2), vr x10, vr x5]) (n := 2) (d' := 2) (b := (cn s2)) hC hnL (wX7_init (gLn X) Y hl hY (cn s2) x13 (x14 - (nI 1)) s11) dX3_echoes_44 q771 q374 q81 q375 ⟨by decide +kernel, by decide +kernel⟩ rfl rfl (by decide) (by decide) (by simp [cat_vr, cat_r, cat_i, cat_n]) (kn_V (fun r15 s16 => ?_)) kx_V
      refine gc_rv (fun a17 h_ => ?_)
      subst h_
      refine gc_gd (fun hk => ?_)
      refine gc_callV (f := fX1_sends a17 x10 (some (cn s2)) s16) (As := [vr x10, .ref (cn s2)]) (rest := []) (n := 2) (d' := 3) (b := a17) hC hnL (wX1_sends (gLn X) Y hl hY a17 x10 (some (cn s2)) s16) hk (ci := 1) rfl dX3_echoes_47 q772 q391 q392 q75 q393 ⟨by decide +kernel, by decide +kernel⟩ rfl (by decide) (by decide) (Nat.le_of_ble_eq_true rfl) (kn_I (fun r18 s19 => ?_)) kx_I
      refine gc_pop hG dX3_echoes_50 rfl ?_
      exact gc_vret hC hrt rfl dX3_echoes_51
  · exact gc_vret hC hrt rfl dX3_echoes_51
def fX3_fans_L2 (v0 : Nat) (v1 : Option Nat) (v2 : Option Nat) (kx : cS → Option (Unit × cS)) : Nat → Int32 → cS → Option (Unit × cS)
  | 0, _, _ => none
  | k + 1, v3, t =>
    gd (cK t v0 = 4) (
    letv (cR t 25 v0) (fun x1 =>
    rv x1 (fun a2 =>
    gd (cK t a2 = 2) (
    letv (cI t 7 a2) (fun x3 =>
    if v3 < x3 then
      gd (cK t v0 = 4) (
      letv (cR t 25 v0) (fun x4 =>
      rv x4 (fun a5 =>
      gd (cK t a5 = 2) (
      letv (cR t 6 a5) (fun x6 =>
      rv x6 (fun a7 =>
      gd (cK t a7 = 23 ∧ cIn t a7 v3) (
      letv (cR t (er (v3).toNatClampNeg) a7) (fun x8 =>
      rv x8 (fun a9 =>
      gd (cK t a9 = 5) (
      letv (cI t 27 a9) (fun x10 =>
      rv v1 (fun a11 =>
      gd (cK t a11 = 5) (
      letv (cI t 26 a11) (fun x12 =>
      jn (fun  (t13 : cS) =>
        letv (v3 + (nI 1)) (fun y15 =>
        fX3_fans_L2 v0 v1 v2 kx k y15 t13
        )
        ) (fun (j14 : cS → Option (Unit × cS)) =>
        if x10 = x12 then
          gd (cK t v0 = 4) (
          letv (cR t 25 v0) (fun x16 =>
          rv x16 (fun a17 =>
          gd (cK t a17 = 2) (
          letv (cR t 6 a17) (fun x18 =>
          rv x18 (fun a19 =>
          gd (cK t a19 = 23 ∧ cIn t a19 v3) (
          letv (cR t (er (v3).toNatClampNeg) a19) (fun x20 =>
          rv x20 (fun a21 =>
          gd (cK t a21 = 5) (
          letv (cI t 33 a21) (fun x22 =>
          if x22 = 0 then
            j14 t
          else
            gd (cK t v0 = 4) (
            letv (cR t 25 v0) (fun x23 =>
            gd (cK t v0 = 4) (
            letv (cR t 25 v0) (fun x24 =>
            rv x24 (fun a25 =>
            gd (cK t a25 = 2) (
            letv (cR t 6 a25) (fun x26 =>
            rv x26 (fun a27 =>
            gd (cK t a27 = 23 ∧ cIn t a27 v3) (
            letv (cR t (er (v3).toNatClampNeg) a27) (fun x28 =>
            letv (sN t 6 0 2) (fun s29 =>
            gd (cK s29 a11 = 5) (
            letv (cI s29 26 a11) (fun x30 =>
            rv v2 (fun a31 =>
            gd (cK s29 a31 = 6) (
            letv (cI s29 44 a31) (fun x32 =>
            ob (fX7_init (cn t) x30 x32 s29) (fun r33 s34 =>
            rv x23 (fun a35 =>
            gd (cK s34 a35 = 2) (
            ob (fX1_sends a35 x28 (some (cn t)) s34) (fun r36 s37 =>
            j14 s37
            )
            )
            )
            )
            )
            )
            )
            )
            )
            )
            )
            )
            )
            )
            )
            )
            )
            )
            )
            )
          )
          )
          )
          )
          )
          )
          )
          )
          )
          )
          )
        else
          j14 t
        )
      )
      )
      )
      )
      )
      )
      )
      )
      )
      )
      )
      )
      )
      )
    else
      kx t
    )
    )
    )
    )
    )
theorem mfX3_fans_L2 (v0 : Nat) (v1 : Option Nat) (v2 : Option Nat) (kx : cS → Option (Unit × cS)) (hkx : ∀  (t : cS), MO t (kx t)) : ∀ (k : Nat) (v3 : Int32) (t : cS), MO t (fX3_fans_L2 v0 v1 v2 kx k v3 t) := by
  intro k
  induction k with
  | zero => intro v3 t; exact mo_none
  | succ k ih =>
    intro v3 t
    rw [fX3_fans_L2]
    refine mo_gd ?_
    refine mo_letv (fun _ => ?_)
    refine mo_rv (fun _ => ?_)
    refine mo_gd ?_
    refine mo_letv (fun _ => ?_)
    refine mo_ite ?_ ?_
    · refine mo_gd ?_
      refine mo_letv (fun _ => ?_)
      refine mo_rv (fun _ => ?_)
      refine mo_gd ?_
      refine mo_letv (fun _ => ?_)
      refine mo_rv (fun _ => ?_)
      refine mo_gd ?_
      refine mo_letv (fun _ => ?_)
      refine mo_rv (fun _ => ?_)
      refine mo_gd ?_
      refine mo_letv (fun _ => ?_)
      refine mo_rv (fun _ => ?_)
      refine mo_gd ?_
      refine mo_letv (fun _ => ?_)
      refine mo_jn (fun j_ => ∀ ( t13 : cS ), MO t13 (j_ t13)) (fun t13 => ?_) (fun j14 hj14 => ?_)
      · refine mo_letv (fun _ => ?_)
        exact ih _ _
      · refine mo_ite ?_ ?_
        · refine mo_gd ?_
          refine mo_letv (fun _ => ?_)
          refine mo_rv (fun _ => ?_)
          refine mo_gd ?_
          refine mo_letv (fun _ => ?_)
          refine mo_rv (fun _ => ?_)
          refine mo_gd ?_
          refine mo_letv (fun _ => ?_)
          refine mo_rv (fun _ => ?_)
          refine mo_gd ?_
          refine mo_letv (fun _ => ?_)
          refine mo_ite ?_ ?_
          · exact hj14 _
          · refine mo_gd ?_
            refine mo_letv (fun _ => ?_)
            refine mo_gd ?_
            refine mo_letv (fun _ => ?_)
            refine mo_rv (fun _ => ?_)
            refine mo_gd ?_
            refine mo_letv (fun _ => ?_)
            refine mo_rv (fun _ => ?_)
            refine mo_gd ?_
            refine mo_letv (fun _ => ?_)
            refine mo_letS cMo_sN (fun _ => ?_)
            refine mo_gd ?_
            refine mo_letv (fun _ => ?_)
            refine mo_rv (fun _ => ?_)
            refine mo_gd ?_
            refine mo_letv (fun _ => ?_)
            refine mo_ob (by apply mfX7_init) (fun _ _ => ?_)
            refine mo_rv (fun _ => ?_)
            refine mo_gd ?_
            refine mo_ob (by apply mfX1_sends) (fun _ _ => ?_)
            exact hj14 _
        · exact hj14 _
    · exact hkx _
set_option maxHeartbeats 4000000 in
theorem gfX3_fans_L2 {X : gCx} {Y : cY} {s0 : cS} {ad0 : Nat → Nat} (hC : cOk X Y RX3 cX3_fans 4) (hl : (gLn X).stackTraces = false) (hY : ∀ q, q < Y.2.2.2.2.size → ¬ Y.2.2.2.1 q) (hnL : gLoc X = 4) (hrt : gRet X = none) (hnm : X.2.2.2.2.2.2.2.2.1.name = "fans") (hT : gTab X = []) (hmd : (gSt X).methodNamed? yX3_fans = some (gMe X)) (v0 : Nat) (v1 : Option Nat) (v2 : Option Nat) (kx : cS → Option (Unit × cS)) (hkx : ∀  (t : cS), GC X Y (cM Y X 4 s0 ad0 rV) (kx t) t 85 [] []) : ∀ (k : Nat) (v3 : Int32) (t : cS), GC X Y (cM Y X 4 s0 ad0 rV) (fX3_fans_L2 v0 v1 v2 kx k v3 t) t 2 [(0, .ref v0), (1, vr v1), (2, vr v2), (3, .int v3)] [] := by
  have hG := hC.1
  intro k
  induction k with
  | zero => intro v3 t; exact gc_none
  | succ k ih =>
    intro v3 t
    rw [fX3_fans_L2]
    refine gc_iload_n hG dX3_fans_2 rfl rfl ?_
    refine gc_aload_n hG (v := .ref v0) (refV_a _) dX3_fans_3 rfl rfl ?_
    refine gc_gd (fun hk => ?_)
    refine gc_get hC (ci := 3) (j := 0) (v := vr (cR t 25 v0)) hk dX3_fans_4 rfl (by decide) in_X3 q153 (fun _ h => h) rfl ?_
    refine gc_letr (fun x1 h_ => ?_)
    refine gc_rv (fun a2 h_ => ?_)
    subst h_
    refine gc_gd (fun hk => ?_)
    refine gc_getN hC (ci := 1) (j := 1) (v := .int (cI t 7 a2)) hk dX3_fans_7 rfl (by decide) in_X1 q163 (fun _ h => h) rfl ?_
    refine gc_letv (fun x3 h_ => ?_)
    refine gc_icmp_ge hG (tgt := 85) dX3_fans_10 (by decide) ?_ ?_
    · refine gc_aload_n hG (v := .ref v0) (refV_a _) dX3_fans_13 rfl rfl ?_
      refine gc_gd (fun hk => ?_)
      refine gc_get hC (ci := 3) (j := 0) (v := vr (cR t 25 v0)) hk dX3_fans_14 rfl (by decide) in_X3 q153 (fun _ h => h) rfl ?_
      refine gc_letr (fun x4 h_ => ?_)
      refine gc_rv (fun a5 h_ => ?_)
      subst h_
      refine gc_gd (fun hk => ?_)
      refine gc_getN hC (ci := 1) (j := 0) (v := vr (cR t 6 a5)) hk dX3_fans_17 rfl (by decide) in_X1 q159 (fun _ h => h) rfl ?_
      refine gc_letr (fun x6 h_ => ?_)
      refine gc_iload_n hG dX3_fans_20 rfl rfl ?_
      refine gc_rv (fun a7 h_ => ?_)
      subst h_
      refine gc_gd (fun hk => ?_)
      refine gc_aald hC hk.1 (by decide) (by decide) (t0 := 3) rfl hk.2 dX3_fans_21 ?_
      refine gc_letr (fun x8 h_ => ?_)
      refine gc_rv (fun a9 h_ => ?_)
      subst h_
      refine gc_gd (fun hk => ?_)
      refine gc_getN hC (ci := 4) (j := 1) (v := .int (cI t 27 a9)) hk dX3_fans_22 rfl (by decide) in_X5 q285 (fun _ h => h) rfl ?_
      refine gc_letv (fun x10 h_ => ?_)
      refine gc_aload_n hG (v := vr v1) (refV_x _) dX3_fans_25 rfl rfl ?_
      refine gc_rv (fun a11 h_ => ?_)
      subst h_
      refine gc_gd (fun hk => ?_)
      refine gc_getN hC (ci := 4) (j := 0) (v := .int (cI t 26 a11)) hk dX3_fans_26 rfl (by decide) in_X5 q282 (fun _ h => h) rfl ?_
      refine gc_letv (fun x12 h_ => ?_)
      refine gc_jn (fun j_ => ∀  (t13 : cS), GC X Y (cM Y X 4 s0 ad0 rV) (j_ t13) t13 79 [(0, .ref v0), (1, .ref a11), (2, vr v2), (3, .int v3)] []) (fun t13 => ?_) (fun j14 hj14 => ?_)
      · refine gc_letiinc hG (c := (nI 1)) (lv' := fun y15 => [(0, .ref v0), (1, .ref a11), (2, vr v2), (3, .int y15)]) dX3_fans_79 rfl (by decide) (Nat.le_of_ble_eq_true rfl) (fun _ => rfl) (fun y15 => ?_)
        refine gc_goto hG (tgt := 2) dX3_fans_82 (by decide) ?_
        exact ih y15 t13
      · refine gc_icmp_ne hG (tgt := 79) dX3_fans_29 (by decide) ?_ ?_
        · refine gc_aload_n hG (v := .ref v0) (refV_a _) dX3_fans_32 rfl rfl ?_
          refine gc_gd (fun hk => ?_)
          refine gc_get hC (ci := 3) (j := 0) (v := vr (cR t 25 v0)) hk dX3_fans_33 rfl (by decide) in_X3 q153 (fun _ h => h) rfl ?_
          refine gc_letr (fun x16 h_ => ?_)
          refine gc_rv (fun a17 h_ => ?_)
          subst h_
          refine gc_gd (fun hk => ?_)
          refine gc_getN hC (ci := 1) (j := 0) (v := vr (cR t 6 a17)) hk dX3_fans_36 rfl (by decide) in_X1 q159 (fun _ h => h) rfl ?_
          refine gc_letr (fun x18 h_ => ?_)
          refine gc_iload_n hG dX3_fans_39 rfl rfl ?_
          refine gc_rv (fun a19 h_ => ?_)
          subst h_
          refine gc_gd (fun hk => ?_)
          refine gc_aald hC hk.1 (by decide) (by decide) (t0 := 3) rfl hk.2 dX3_fans_40 ?_
          refine gc_letr (fun x20 h_ => ?_)
          refine gc_rv (fun a21 h_ => ?_)
          subst h_
          refine gc_gd (fun hk => ?_)
          refine gc_getN hC (ci := 4) (j := 7) (v := .int (cI t 33 a21)) hk dX3_fans_41 rfl (by decide) in_X5 q301 (fun _ h => h) rfl ?_
          refine gc_letv (fun x22 h_ => ?_)
          refine gc_if_eq hG (tgt := 79) dX3_fans_44 (by decide) ?_ ?_
          · exact hj14 t
          · refine gc_aload_n hG (v := .ref v0) (refV_a _) dX3_fans_47 rfl rfl ?_
            refine gc_gd (fun hk => ?_)
            refine gc_get hC (ci := 3) (j := 0) (v := vr (cR t 25 v0)) hk dX3_fans_48 rfl (by decide) in_X3 q153 (fun _ h => h) rfl ?_
            refine gc_letr (fun x23 h_ => ?_)
            refine gc_aload_n hG (v := .ref v0) (refV_a _) dX3_fans_51 rfl rfl ?_
            refine gc_gd (fun hk => ?_)
            refine gc_get hC (ci := 3) (j := 0) (v := vr (cR t 25 v0)) hk dX3_fans_52 rfl (by decide) in_X3 q153 (fun _ h => h) rfl ?_
            refine gc_letr (fun x24 h_ => ?_)
            refine gc_rv (fun a25 h_ => ?_)
            subst h_
            refine gc_gd (fun hk => ?_)
            refine gc_getN hC (ci := 1) (j := 0) (v := vr (cR t 6 a25)) hk dX3_fans_55 rfl (by decide) in_X1 q159 (fun _ h => h) rfl ?_
            refine gc_letr (fun x26 h_ => ?_)
            refine gc_iload_n hG dX3_fans_58 rfl rfl ?_
            refine gc_rv (fun a27 h_ => ?_)
            subst h_
            refine gc_gd (fun hk => ?_)
            refine gc_aald hC hk.1 (by decide) (by decide) (t0 := 3) rfl hk.2 dX3_fans_59 ?_
            refine gc_letr (fun x28 h_ => ?_)
            refine gc_new hC (ci := 5) tyX7 tyX7_ok rfl in_X7 dX3_fans_60 q770 q372 q81 (by decide +kernel) ?_
            refine gc_letS (fun s29 => ?_)
            refine gc_dup hG dX3_fans_63 rfl ?_
            refine gc_aload_n hG (v := .ref a11) (refV_a _) dX3_fans_64 rfl rfl ?_
            refine gc_gd (fun hk => ?_)
            refine gc_getN hC (ci := 4) (j := 0) (v := .int (cI s29 26 a11)) hk dX3_fans_65 rfl (by decide) in_X5 q282 (fun _ h => h) rfl ?_
            refine gc_letv (fun x30 h_ => ?_)
            refine gc_aload_n hG (v := vr v2) (refV_x _) dX3_fans_68 rfl rfl ?_
            refine gc_rv (fun a31 h_ => ?_)
            subst h_
            refine gc_gd (fun hk => ?_)
            refine gc_getN hC (ci := 5) (j := 1) (v := .int (cI s29 44 a31)) hk dX3_fans_69 rfl (by decide) in_X7 q381 (fun _ h => h) rfl ?_
            refine gc_letv (fun x32 h_ => ?_)
            refine gc_callI (f := fX7_init (cn t) x30 x32 s29) (As := [.int x30, .int x32]) (rest := [.ref (cn t), vr x28, vr x23]) (n := 2) (d' := 2) (b := (cn t)) hC hnL (wX7_init (gLn X) Y hl hY (cn t) x30 x32 s29) dX3_fans_72 q771 q374 q81 q375 ⟨by decide +kernel, by decide +kernel⟩ rfl rfl (by decide) (by decide) (by simp [cat_vr, cat_r, cat_i, cat_n]) (kn_V (fun r33 s34 => ?_)) kx_V
            refine gc_rv (fun a35 h_ => ?_)
            subst h_
            refine gc_gd (fun hk => ?_)
            refine gc_callV (f := fX1_sends a35 x28 (some (cn t)) s34) (As := [vr x28, .ref (cn t)]) (rest := []) (n := 2) (d' := 3) (b := a35) hC hnL (wX1_sends (gLn X) Y hl hY a35 x28 (some (cn t)) s34) hk (ci := 1) rfl dX3_fans_75 q772 q391 q392 q75 q393 ⟨by decide +kernel, by decide +kernel⟩ rfl (by decide) (by decide) (Nat.le_of_ble_eq_true rfl) (kn_I (fun r36 s37 => ?_)) kx_I
            refine gc_pop hG dX3_fans_78 rfl ?_
            exact hj14 s37
        · exact hj14 t
    · refine gc_sub [] rfl ?_
      exact hkx t
def fX3_fans (v0 : Nat) (v1 : Option Nat) (v2 : Option Nat) (t : cS) : Option (Unit × cS) :=
  fX3_fans_L2 v0 v1 v2 (fun  (t38 : cS) =>
    (some ((), t38))
    ) FU (nI 0) t
theorem mfX3_fans (v0 : Nat) (v1 : Option Nat) (v2 : Option Nat) (t : cS) : MO t (fX3_fans v0 v1 v2 t) := by
  unfold fX3_fans
  refine mfX3_fans_L2 _ _ _ _ (fun _ => ?_) _ _ _
  exact mo_some
set_option maxHeartbeats 4000000 in
theorem wX3_fans (l : Launch) (Y : cY) (hl : l.stackTraces = false) (hY : ∀ q, q < Y.2.2.2.2.size → ¬ Y.2.2.2.1 q) (v0 : Nat) (v1 : Option Nat) (v2 : Option Nat) (t : cS) : cFn l Y yX3_fans (ws_ yX3_fans cX3_fans 4 none) 4 [.ref v0, vr v1, vr v2] t (fX3_fans v0 v1 v2 t) rV := by
  refine cmet (av := [.ref v0, vr v1, vr v2]) (mfX3_fans v0 v1 v2 t) hl hY (by decide +kernel) (lg_le (List.forall_mem_cons.mpr ⟨rfl, List.forall_mem_cons.mpr ⟨(cat_vr _), List.forall_mem_cons.mpr ⟨(cat_vr _), fun _ h => absurd h List.not_mem_nil⟩⟩⟩) (Nat.le_of_ble_eq_true rfl)) (lv_args_cat (List.forall_mem_cons.mpr ⟨rfl, List.forall_mem_cons.mpr ⟨(cat_vr _), List.forall_mem_cons.mpr ⟨(cat_vr _), fun _ h => absurd h List.not_mem_nil⟩⟩⟩)) ?_
  intro X ad0 hln hC hnL hrt hnm hT hmd
  subst hln
  have hG := hC.1
  rw [lv_args_s (List.forall_mem_cons.mpr ⟨rfl, List.forall_mem_cons.mpr ⟨(cat_vr _), List.forall_mem_cons.mpr ⟨(cat_vr _), fun _ h => absurd h List.not_mem_nil⟩⟩⟩)]
  show GC X Y (cM Y X 4 t ad0 rV) _ t 0 [(0, .ref v0), (1, vr v1), (2, vr v2)] []
  unfold fX3_fans
  refine gc_iconst hG (nI 0) dX3_fans_0 (by decide) ?_
  refine gc_istore_n hG dX3_fans_1 rfl (Nat.le_of_ble_eq_true rfl) (lv' := [(0, _), (1, _), (2, _), (3, _)]) rfl ?_
  refine gfX3_fans_L2 (s0 := t) (ad0 := ad0) hC hl hY hnL hrt hnm hT hmd v0 v1 v2   _ (fun t38 => ?_) FU (nI 0) t
  exact gc_vret hC hrt rfl dX3_fans_85
def fX2_all_L5 (v0 : Nat) (v2 : Option Nat) (kx : cS → Option (Unit × cS)) : Nat → cS → Option (Unit × cS)
  | 0, _ => none
  | k + 1, t =>
    rv v2 (fun a4 =>
    gd (cK t a4 = 8) (
    ob (fX9_hasNext a4 t) (fun r5 s6 =>
    if r5 = 0 then
      kx s6
    else
      gd (cK s6 a4 = 8) (
      ob (fX9_next a4 s6) (fun r7 s8 =>
      gd (cK s8 v0 = 3) (
      ob (fX2_puts v0 r7 s8) (fun r9 s10 =>
      fX2_all_L5 v0 v2 kx k s10
      )
      )
      )
      )
    )
    )
    )
theorem mfX2_all_L5 (v0 : Nat) (v2 : Option Nat) (kx : cS → Option (Unit × cS)) (hkx : ∀  (t : cS), MO t (kx t)) : ∀ (k : Nat)  (t : cS), MO t (fX2_all_L5 v0 v2 kx k t) := by
  intro k
  induction k with
  | zero => intro t; exact mo_none
  | succ k ih =>
    intro t
    rw [fX2_all_L5]
    refine mo_rv (fun _ => ?_)
    refine mo_gd ?_
    refine mo_ob (by apply mfX9_hasNext) (fun _ _ => ?_)
    refine mo_ite ?_ ?_
    · exact hkx _
    · refine mo_gd ?_
      refine mo_ob (by apply mfX9_next) (fun _ _ => ?_)
      refine mo_gd ?_
      refine mo_ob (by apply mfX2_puts) (fun _ _ => ?_)
      exact ih _
set_option maxHeartbeats 4000000 in
theorem gfX2_all_L5 {X : gCx} {Y : cY} {s0 : cS} {ad0 : Nat → Nat} (hC : cOk X Y RX2 cX2_all 3) (hl : (gLn X).stackTraces = false) (hY : ∀ q, q < Y.2.2.2.2.size → ¬ Y.2.2.2.1 q) (hnL : gLoc X = 4) (hrt : gRet X = none) (hnm : X.2.2.2.2.2.2.2.2.1.name = "all") (hT : gTab X = []) (hmd : (gSt X).methodNamed? yX2_all = some (gMe X)) (v0 : Nat) (v2 : Option Nat) (kx : cS → Option (Unit × cS)) (hkx : ∀  (t : cS), GC X Y (cM Y X 4 s0 ad0 rV) (kx t) t 30 [] []) : ∀ (k : Nat)  (t : cS), GC X Y (cM Y X 4 s0 ad0 rV) (fX2_all_L5 v0 v2 kx k t) t 5 [(0, .ref v0), (2, vr v2)] [] := by
  have hG := hC.1
  intro k
  induction k with
  | zero => intro t; exact gc_none
  | succ k ih =>
    intro t
    rw [fX2_all_L5]
    refine gc_aload_n hG (v := vr v2) (refV_x _) dX2_all_5 rfl rfl ?_
    refine gc_rv (fun a4 h_ => ?_)
    subst h_
    refine gc_gd (fun hk => ?_)
    refine gc_callF (f := fX9_hasNext a4 t) (As := []) (rest := []) (n := 0) (d' := 1) (b := a4) (x := ⟨"java/util/Iterator", "hasNext", "()Z"⟩) hC hnL (wX9_hasNext (gLn X) Y hl hY a4 t) hk (ci := 7) rfl dX2_all_6 q590 (by decide +kernel) q458 q456 q83 q460 (by decide +kernel) rfl (by decide) (by decide) (Nat.le_of_ble_eq_true rfl) (kn_I (fun r5 s6 => ?_)) kx_I
    refine gc_if_eq hG (tgt := 30) dX2_all_11 (by decide) ?_ ?_
    · refine gc_sub [] rfl ?_
      exact hkx s6
    · refine gc_aload_n hG (v := .ref a4) (refV_a _) dX2_all_14 rfl rfl ?_
      refine gc_gd (fun hk => ?_)
      refine gc_callF (f := fX9_next a4 s6) (As := []) (rest := []) (n := 0) (d' := 1) (b := a4) (x := ⟨"java/util/Iterator", "next", "()Ljava/lang/Object;"⟩) hC hnL (wX9_next (gLn X) Y hl hY a4 s6) hk (ci := 7) rfl dX2_all_15 q592 (by decide +kernel) q467 q465 q83 q469 (by decide +kernel) rfl (by decide) (by decide) (Nat.le_of_ble_eq_true rfl) (kn_R (fun r7 s8 => ?_)) kx_R
      refine gc_astore_n hG (refV_x _) dX2_all_20 rfl (Nat.le_of_ble_eq_true rfl) (lv' := [(0, _), (2, _), (3, _)]) rfl ?_
      refine gc_aload_n hG (v := .ref v0) (refV_a _) dX2_all_21 rfl rfl ?_
      refine gc_aload_n hG (v := vr r7) (refV_x _) dX2_all_22 rfl rfl ?_
      refine gc_gd (fun hk => ?_)
      refine gc_callV (f := fX2_puts v0 r7 s8) (As := [vr r7]) (rest := []) (n := 1) (d' := 2) (b := v0) hC hnL (wX2_puts (gLn X) Y hl hY v0 r7 s8) hk (ci := 2) rfl dX2_all_23 q824 q395 q396 q76 q397 ⟨by decide +kernel, by decide +kernel⟩ rfl (by decide) (by decide) (Nat.le_of_ble_eq_true rfl) (kn_I (fun r9 s10 => ?_)) kx_I
      refine gc_pop hG dX2_all_26 rfl ?_
      refine gc_goto hG (tgt := 5) dX2_all_27 (by decide) ?_
      refine gc_sub [0, 1] rfl ?_
      exact ih s10
def fX2_all (v0 : Nat) (v1 : Option Nat) (t : cS) : Option (Unit × cS) :=
  rv v1 (fun a1 =>
  gd (cK t a1 = 3) (
  ob (fX2_iterator a1 t) (fun r2 s3 =>
  fX2_all_L5 v0 r2 (fun  (t11 : cS) =>
    (some ((), t11))
    ) FU s3
  )
  )
  )
theorem mfX2_all (v0 : Nat) (v1 : Option Nat) (t : cS) : MO t (fX2_all v0 v1 t) := by
  unfold fX2_all
  refine mo_rv (fun _ => ?_)
  refine mo_gd ?_
  refine mo_ob (by apply mfX2_iterator) (fun _ _ => ?_)
  refine mfX2_all_L5 _ _ _ (fun _ => ?_) _ _
  exact mo_some
set_option maxHeartbeats 4000000 in
theorem wX2_all (l : Launch) (Y : cY) (hl : l.stackTraces = false) (hY : ∀ q, q < Y.2.2.2.2.size → ¬ Y.2.2.2.1 q) (v0 : Nat) (v1 : Option Nat) (t : cS) : cFn l Y yX2_all (ws_ yX2_all cX2_all 4 none) 3 [.ref v0, vr v1] t (fX2_all v0 v1 t) rV := by
  refine cmet (av := [.ref v0, vr v1]) (mfX2_all v0 v1 t) hl hY (by decide +kernel) (lg_le (List.forall_mem_cons.mpr ⟨rfl, List.forall_mem_cons.mpr ⟨(cat_vr _), fun _ h => absurd h List.not_mem_nil⟩⟩) (Nat.le_of_ble_eq_true rfl)) (lv_args_cat (List.forall_mem_cons.mpr ⟨rfl, List.forall_mem_cons.mpr ⟨(cat_vr _), fun _ h => absurd h List.not_mem_nil⟩⟩)) ?_
  intro X ad0 hln hC hnL hrt hnm hT hmd
  subst hln
  have hG := hC.1
  rw [lv_args_s (List.forall_mem_cons.mpr ⟨rfl, List.forall_mem_cons.mpr ⟨(cat_vr _), fun _ h => absurd h List.not_mem_nil⟩⟩)]
  show GC X Y (cM Y X 4 t ad0 rV) _ t 0 [(0, .ref v0), (1, vr v1)] []
  unfold fX2_all
  refine gc_aload_n hG (v := vr v1) (refV_x _) dX2_all_0 rfl rfl ?_
  refine gc_rv (fun a1 h_ => ?_)
  subst h_
  refine gc_gd (fun hk => ?_)
  refine gc_callV (f := fX2_iterator a1 t) (As := []) (rest := []) (n := 0) (d' := 2) (b := a1) hC hnL (wX2_iterator (gLn X) Y hl hY a1 t) hk (ci := 2) rfl dX2_all_1 q588 q435 q436 q76 q437 ⟨by decide +kernel, by decide +kernel⟩ rfl (by decide) (by decide) (Nat.le_of_ble_eq_true rfl) (kn_R (fun r2 s3 => ?_)) kx_R
  refine gc_astore_n hG (refV_x _) dX2_all_4 rfl (Nat.le_of_ble_eq_true rfl) (lv' := [(0, _), (1, _), (2, _)]) rfl ?_
  refine gc_sub [0, 2] rfl ?_
  refine gfX2_all_L5 (s0 := t) (ad0 := ad0) hC hl hY hnL hrt hnm hT hmd v0 r2  _ (fun t11 => ?_) FU s3
  exact gc_vret hC hrt rfl dX2_all_30
def fX2_ahead_L64 (v0 : Nat) (v2 : Int32) (v3 : Nat) (v4 : Int32) (v6 : Option Nat) (kx : cS → Option (Int32 × cS)) : Nat → Int32 → cS → Option (Int32 × cS)
  | 0, _, _ => none
  | k + 1, v5, t =>
    rv v6 (fun a19 =>
    gd (cK t a19 = 8) (
    ob (fX9_hasNext a19 t) (fun r20 s21 =>
    if r20 = 0 then
      kx s21
    else
      gd (cK s21 a19 = 8) (
      ob (fX9_next a19 s21) (fun r22 s23 =>
      jn (fun  (t24 : cS) =>
        letv (v5 + (nI 1)) (fun y26 =>
        fX2_ahead_L64 v0 v2 v3 v4 v6 kx k y26 t24
        )
        ) (fun (j25 : cS → Option (Int32 × cS)) =>
        if v5 < v2 then
          gd (cK s23 v0 = 3) (
          ob (fX2_puts v0 r22 s23) (fun r27 s28 =>
          j25 s28
          )
          )
        else
          j25 s23
        )
      )
      )
    )
    )
    )
theorem mfX2_ahead_L64 (v0 : Nat) (v2 : Int32) (v3 : Nat) (v4 : Int32) (v6 : Option Nat) (kx : cS → Option (Int32 × cS)) (hkx : ∀  (t : cS), MO t (kx t)) : ∀ (k : Nat) (v5 : Int32) (t : cS), MO t (fX2_ahead_L64 v0 v2 v3 v4 v6 kx k v5 t) := by
  intro k
  induction k with
  | zero => intro v5 t; exact mo_none
  | succ k ih =>
    intro v5 t
    rw [fX2_ahead_L64]
    refine mo_rv (fun _ => ?_)
    refine mo_gd ?_
    refine mo_ob (by apply mfX9_hasNext) (fun _ _ => ?_)
    refine mo_ite ?_ ?_
    · exact hkx _
    · refine mo_gd ?_
      refine mo_ob (by apply mfX9_next) (fun _ _ => ?_)
      refine mo_jn (fun j_ => ∀ ( t24 : cS ), MO t24 (j_ t24)) (fun t24 => ?_) (fun j25 hj25 => ?_)
      · refine mo_letv (fun _ => ?_)
        exact ih _ _
      · refine mo_ite ?_ ?_
        · refine mo_gd ?_
          refine mo_ob (by apply mfX2_puts) (fun _ _ => ?_)
          exact hj25 _
        · exact hj25 _
set_option maxHeartbeats 4000000 in
theorem gfX2_ahead_L64 {X : gCx} {Y : cY} {s0 : cS} {ad0 : Nat → Nat} (hC : cOk X Y RX2 cX2_ahead 4) (hl : (gLn X).stackTraces = false) (hY : ∀ q, q < Y.2.2.2.2.size → ¬ Y.2.2.2.1 q) (hnL : gLoc X = 8) (hrt : gRet X = (some .int)) (hnm : X.2.2.2.2.2.2.2.2.1.name = "ahead") (hT : gTab X = []) (hmd : (gSt X).methodNamed? yX2_ahead = some (gMe X)) (v0 : Nat) (v2 : Int32) (v3 : Nat) (v4 : Int32) (v6 : Option Nat) (kx : cS → Option (Int32 × cS)) (hkx : ∀  (t : cS), GC X Y (cM Y X 8 s0 ad0 rI) (kx t) t 102 [(0, .ref v0), (3, .ref v3), (4, .int v4)] []) : ∀ (k : Nat) (v5 : Int32) (t : cS), GC X Y (cM Y X 8 s0 ad0 rI) (fX2_ahead_L64 v0 v2 v3 v4 v6 kx k v5 t) t 64 [(0, .ref v0), (2, .int v2), (3, .ref v3), (4, .int v4), (5, .int v5), (6, vr v6)] [] := by
  have hG := hC.1
  intro k
  induction k with
  | zero => intro v5 t; exact gc_none
  | succ k ih =>
    intro v5 t
    rw [fX2_ahead_L64]
    refine gc_aload hG (v := vr v6) (refV_x _) dX2_ahead_64 rfl ?_
    refine gc_rv (fun a19 h_ => ?_)
    subst h_
    refine gc_gd (fun hk => ?_)
    refine gc_callF (f := fX9_hasNext a19 t) (As := []) (rest := []) (n := 0) (d' := 1) (b := a19) (x := ⟨"java/util/Iterator", "hasNext", "()Z"⟩) hC hnL (wX9_hasNext (gLn X) Y hl hY a19 t) hk (ci := 7) rfl dX2_ahead_66 q590 (by decide +kernel) q458 q456 q83 q460 (by decide +kernel) rfl (by decide) (by decide) (Nat.le_of_ble_eq_true rfl) (kn_I (fun r20 s21 => ?_)) kx_I
    refine gc_if_eq hG (tgt := 102) dX2_ahead_71 (by decide) ?_ ?_
    · refine gc_sub [0, 2, 3] rfl ?_
      exact hkx s21
    · refine gc_aload hG (v := .ref a19) (refV_a _) dX2_ahead_74 rfl ?_
      refine gc_gd (fun hk => ?_)
      refine gc_callF (f := fX9_next a19 s21) (As := []) (rest := []) (n := 0) (d' := 1) (b := a19) (x := ⟨"java/util/Iterator", "next", "()Ljava/lang/Object;"⟩) hC hnL (wX9_next (gLn X) Y hl hY a19 s21) hk (ci := 7) rfl dX2_ahead_76 q592 (by decide +kernel) q467 q465 q83 q469 (by decide +kernel) rfl (by decide) (by decide) (Nat.le_of_ble_eq_true rfl) (kn_R (fun r22 s23 => ?_)) kx_R
      refine gc_astore hG (refV_x _) dX2_ahead_81 (Nat.le_of_ble_eq_true rfl) (lv' := [(0, _), (2, _), (3, _), (4, _), (5, _), (6, _), (7, _)]) rfl ?_
      refine gc_iload hG dX2_ahead_83 rfl ?_
      refine gc_iload_n hG dX2_ahead_85 rfl rfl ?_
      refine gc_jn (fun j_ => ∀  (t24 : cS), GC X Y (cM Y X 8 s0 ad0 rI) (j_ t24) t24 96 [(0, .ref v0), (2, .int v2), (3, .ref v3), (4, .int v4), (5, .int v5), (6, .ref a19)] []) (fun t24 => ?_) (fun j25 hj25 => ?_)
      · refine gc_letiinc hG (c := (nI 1)) (lv' := fun y26 => [(0, .ref v0), (2, .int v2), (3, .ref v3), (4, .int v4), (5, .int y26), (6, .ref a19)]) dX2_ahead_96 rfl (by decide) (Nat.le_of_ble_eq_true rfl) (fun _ => rfl) (fun y26 => ?_)
        refine gc_goto hG (tgt := 64) dX2_ahead_99 (by decide) ?_
        exact ih y26 t24
      · refine gc_icmp_ge hG (tgt := 96) dX2_ahead_86 (by decide) ?_ ?_
        · refine gc_aload_n hG (v := .ref v0) (refV_a _) dX2_ahead_89 rfl rfl ?_
          refine gc_aload hG (v := vr r22) (refV_x _) dX2_ahead_90 rfl ?_
          refine gc_gd (fun hk => ?_)
          refine gc_callV (f := fX2_puts v0 r22 s23) (As := [vr r22]) (rest := []) (n := 1) (d' := 2) (b := v0) hC hnL (wX2_puts (gLn X) Y hl hY v0 r22 s23) hk (ci := 2) rfl dX2_ahead_92 q824 q395 q396 q76 q397 ⟨by decide +kernel, by decide +kernel⟩ rfl (by decide) (by decide) (Nat.le_of_ble_eq_true rfl) (kn_I (fun r27 s28 => ?_)) kx_I
          refine gc_pop hG dX2_ahead_95 rfl ?_
          refine gc_sub [0, 1, 2, 3, 4, 5] rfl ?_
          exact hj25 s28
        · refine gc_sub [0, 1, 2, 3, 4, 5] rfl ?_
          exact hj25 s23
def fX2_ahead (v0 : Nat) (v1 : Option Nat) (t : cS) : Option (Int32 × cS) :=
  rv v1 (fun a1 =>
  gd (cK t a1 = 3) (
  letv (cI t 24 a1) (fun x2 =>
  if x2 = 0 then
    (some ((nI 0), t))
  else
    gd (cK t a1 = 3) (
    letv (cI t 24 a1) (fun x3 =>
    gd (cK t v0 = 3) (
    letv (cI t 21 v0) (fun x4 =>
    gd (cK t v0 = 3) (
    letv (cI t 24 v0) (fun x5 =>
    letv ((if (x4 - x5) < x3 then (x4 - x5) else x3)) (fun y6 =>
    letv (sN t 3 0 4) (fun s7 =>
    gd (cK s7 v0 = 3) (
    letv (cI s7 21 v0) (fun x8 =>
    ob (fX2_init (cn t) x8 s7) (fun r9 s10 =>
    gd (cK s10 (cn t) = 3) (
    ob (fX2_all (cn t) (some v0) s10) (fun r11 s12 =>
    gd (cK s12 a1 = 3) (
    letv (cI s12 24 a1) (fun x13 =>
    letv ((x13 - y6)) (fun y14 =>
    gd (cK s12 v0 = 3) (
    ob (fX2_empties v0 s12) (fun r15 s16 =>
    gd (cK s16 a1 = 3) (
    ob (fX2_iterator a1 s16) (fun r17 s18 =>
    fX2_ahead_L64 v0 y6 (cn t) y14 r17 (fun  (t29 : cS) =>
      gd (cK t29 v0 = 3) (
      ob (fX2_all v0 (some (cn t)) t29) (fun r30 s31 =>
      (some (y14, s31))
      )
      )
      ) FU (nI 0) s18
    )
    )
    )
    )
    )
    )
    )
    )
    )
    )
    )
    )
    )
    )
    )
    )
    )
    )
    )
    )
  )
  )
  )
theorem mfX2_ahead (v0 : Nat) (v1 : Option Nat) (t : cS) : MO t (fX2_ahead v0 v1 t) := by
  unfold fX2_ahead
  refine mo_rv (fun _ => ?_)
  refine mo_gd ?_
  refine mo_letv (fun _ => ?_)
  refine mo_ite ?_ ?_
  · exact mo_some
  · refine mo_gd ?_
    refine mo_letv (fun _ => ?_)
    refine mo_gd ?_
    refine mo_letv (fun _ => ?_)
    refine mo_gd ?_
    refine mo_letv (fun _ => ?_)
    refine mo_letv (fun _ => ?_)
    refine mo_letS cMo_sN (fun _ => ?_)
    refine mo_gd ?_
    refine mo_letv (fun _ => ?_)
    refine mo_ob (by apply mfX2_init) (fun _ _ => ?_)
    refine mo_gd ?_
    refine mo_ob (by apply mfX2_all) (fun _ _ => ?_)
    refine mo_gd ?_
    refine mo_letv (fun _ => ?_)
    refine mo_letv (fun _ => ?_)
    refine mo_gd ?_
    refine mo_ob (by apply mfX2_empties) (fun _ _ => ?_)
    refine mo_gd ?_
    refine mo_ob (by apply mfX2_iterator) (fun _ _ => ?_)
    refine mfX2_ahead_L64 _ _ _ _ _ _ (fun _ => ?_) _ _ _
    refine mo_gd ?_
    refine mo_ob (by apply mfX2_all) (fun _ _ => ?_)
    exact mo_some
set_option maxHeartbeats 4000000 in
theorem wX2_ahead (l : Launch) (Y : cY) (hl : l.stackTraces = false) (hY : ∀ q, q < Y.2.2.2.2.size → ¬ Y.2.2.2.1 q) (v0 : Nat) (v1 : Option Nat) (t : cS) : cFn l Y yX2_ahead (ws_ yX2_ahead cX2_ahead 8 (some .int)) 4 [.ref v0, vr v1] t (fX2_ahead v0 v1 t) rI := by
  refine cmet (av := [.ref v0, vr v1]) (mfX2_ahead v0 v1 t) hl hY (by decide +kernel) (lg_le (List.forall_mem_cons.mpr ⟨rfl, List.forall_mem_cons.mpr ⟨(cat_vr _), fun _ h => absurd h List.not_mem_nil⟩⟩) (Nat.le_of_ble_eq_true rfl)) (lv_args_cat (List.forall_mem_cons.mpr ⟨rfl, List.forall_mem_cons.mpr ⟨(cat_vr _), fun _ h => absurd h List.not_mem_nil⟩⟩)) ?_
  intro X ad0 hln hC hnL hrt hnm hT hmd
  subst hln
  have hG := hC.1
  rw [lv_args_s (List.forall_mem_cons.mpr ⟨rfl, List.forall_mem_cons.mpr ⟨(cat_vr _), fun _ h => absurd h List.not_mem_nil⟩⟩)]
  show GC X Y (cM Y X 8 t ad0 rI) _ t 0 [(0, .ref v0), (1, vr v1)] []
  unfold fX2_ahead
  refine gc_aload_n hG (v := vr v1) (refV_x _) dX2_ahead_0 rfl rfl ?_
  refine gc_rv (fun a1 h_ => ?_)
  subst h_
  refine gc_gd (fun hk => ?_)
  refine gc_get hC (ci := 2) (j := 3) (v := .int (cI t 24 a1)) hk dX2_ahead_1 rfl (by decide) in_X2 q134 (fun _ h => h) rfl ?_
  refine gc_letv (fun x2 h_ => ?_)
  refine gc_if_ne hG (tgt := 9) dX2_ahead_4 (by decide) ?_ ?_
  · refine gc_iconst hG (nI 0) dX2_ahead_7 (by decide) ?_
    exact gc_iret hC hrt rfl rfl dX2_ahead_8
  · refine gc_aload_n hG (v := .ref a1) (refV_a _) dX2_ahead_9 rfl rfl ?_
    refine gc_gd (fun hk => ?_)
    refine gc_get hC (ci := 2) (j := 3) (v := .int (cI t 24 a1)) hk dX2_ahead_10 rfl (by decide) in_X2 q134 (fun _ h => h) rfl ?_
    refine gc_letv (fun x3 h_ => ?_)
    refine gc_aload_n hG (v := .ref v0) (refV_a _) dX2_ahead_13 rfl rfl ?_
    refine gc_gd (fun hk => ?_)
    refine gc_get hC (ci := 2) (j := 0) (v := .int (cI t 21 v0)) hk dX2_ahead_14 rfl (by decide) in_X2 q129 (fun _ h => h) rfl ?_
    refine gc_letv (fun x4 h_ => ?_)
    refine gc_aload_n hG (v := .ref v0) (refV_a _) dX2_ahead_17 rfl rfl ?_
    refine gc_gd (fun hk => ?_)
    refine gc_get hC (ci := 2) (j := 3) (v := .int (cI t 24 v0)) hk dX2_ahead_18 rfl (by decide) in_X2 q134 (fun _ h => h) rfl ?_
    refine gc_letv (fun x5 h_ => ?_)
    refine gc_isub hG dX2_ahead_21 ?_
    refine gc_mmin hC hnL q815 q816 q94 q817 dX2_ahead_22 (Nat.le_of_ble_eq_true rfl) ?_
    refine gc_letv (fun y6 hy6 => ?_)
    refine gc_istore_n hG dX2_ahead_25 rfl (Nat.le_of_ble_eq_true rfl) (lv' := [(0, _), (1, _), (2, _)]) rfl ?_
    refine gc_new hC (ci := 2) tyX2 tyX2_ok rfl in_X2 dX2_ahead_26 q818 q124 q76 (by decide +kernel) ?_
    refine gc_letS (fun s7 => ?_)
    refine gc_dup hG dX2_ahead_29 rfl ?_
    refine gc_aload_n hG (v := .ref v0) (refV_a _) dX2_ahead_30 rfl rfl ?_
    refine gc_gd (fun hk => ?_)
    refine gc_get hC (ci := 2) (j := 0) (v := .int (cI s7 21 v0)) hk dX2_ahead_31 rfl (by decide) in_X2 q129 (fun _ h => h) rfl ?_
    refine gc_letv (fun x8 h_ => ?_)
    refine gc_callI (f := fX2_init (cn t) x8 s7) (As := [.int x8]) (rest := [.ref (cn t)]) (n := 1) (d' := 1) (b := (cn t)) hC hnL (wX2_init (gLn X) Y hl hY (cn t) x8 s7) dX2_ahead_34 q819 q126 q76 q127 ⟨by decide +kernel, by decide +kernel⟩ rfl rfl (by decide) (by decide) (Nat.le_of_ble_eq_true rfl) (kn_V (fun r9 s10 => ?_)) kx_V
    refine gc_astore_n hG (refV_a _) dX2_ahead_37 rfl (Nat.le_of_ble_eq_true rfl) (lv' := [(0, _), (1, _), (2, _), (3, _)]) rfl ?_
    refine gc_aload_n hG (v := .ref (cn t)) (refV_a _) dX2_ahead_38 rfl rfl ?_
    refine gc_aload_n hG (v := .ref v0) (refV_a _) dX2_ahead_39 rfl rfl ?_
    refine gc_gd (fun hk => ?_)
    refine gc_callV (f := fX2_all (cn t) (some v0) s10) (As := [.ref v0]) (rest := []) (n := 1) (d' := 3) (b := (cn t)) hC hnL (wX2_all (gLn X) Y hl hY (cn t) (some v0) s10) hk (ci := 2) rfl dX2_ahead_40 q820 q821 q822 q76 q823 ⟨by decide +kernel, by decide +kernel⟩ rfl (by decide) (by decide) (Nat.le_of_ble_eq_true rfl) (kn_V (fun r11 s12 => ?_)) kx_V
    refine gc_aload_n hG (v := .ref a1) (refV_a _) dX2_ahead_43 rfl rfl ?_
    refine gc_gd (fun hk => ?_)
    refine gc_get hC (ci := 2) (j := 3) (v := .int (cI s12 24 a1)) hk dX2_ahead_44 rfl (by decide) in_X2 q134 (fun _ h => h) rfl ?_
    refine gc_letv (fun x13 h_ => ?_)
    refine gc_iload_n hG dX2_ahead_47 rfl rfl ?_
    refine gc_isub hG dX2_ahead_48 ?_
    refine gc_letv (fun y14 hy14 => ?_)
    refine gc_istore hG dX2_ahead_49 (Nat.le_of_ble_eq_true rfl) (lv' := [(0, _), (1, _), (2, _), (3, _), (4, _)]) rfl ?_
    refine gc_aload_n hG (v := .ref v0) (refV_a _) dX2_ahead_51 rfl rfl ?_
    refine gc_gd (fun hk => ?_)
    refine gc_callV (f := fX2_empties v0 s12) (As := []) (rest := []) (n := 0) (d' := 1) (b := v0) hC hnL (wX2_empties (gLn X) Y hl hY v0 s12) hk (ci := 2) rfl dX2_ahead_52 q657 q646 q647 q76 q648 ⟨by decide +kernel, by decide +kernel⟩ rfl (by decide) (by decide) (Nat.le_of_ble_eq_true rfl) (kn_V (fun r15 s16 => ?_)) kx_V
    refine gc_iconst hG (nI 0) dX2_ahead_55 (by decide) ?_
    refine gc_istore hG dX2_ahead_56 (Nat.le_of_ble_eq_true rfl) (lv' := [(0, _), (1, _), (2, _), (3, _), (4, _), (5, _)]) rfl ?_
    refine gc_aload_n hG (v := .ref a1) (refV_a _) dX2_ahead_58 rfl rfl ?_
    refine gc_gd (fun hk => ?_)
    refine gc_callV (f := fX2_iterator a1 s16) (As := []) (rest := []) (n := 0) (d' := 2) (b := a1) hC hnL (wX2_iterator (gLn X) Y hl hY a1 s16) hk (ci := 2) rfl dX2_ahead_59 q588 q435 q436 q76 q437 ⟨by decide +kernel, by decide +kernel⟩ rfl (by decide) (by decide) (Nat.le_of_ble_eq_true rfl) (kn_R (fun r17 s18 => ?_)) kx_R
    refine gc_astore hG (refV_x _) dX2_ahead_62 (Nat.le_of_ble_eq_true rfl) (lv' := [(0, _), (1, _), (2, _), (3, _), (4, _), (5, _), (6, _)]) rfl ?_
    refine gc_sub [0, 2, 3, 4, 5, 6] rfl ?_
    refine gfX2_ahead_L64 (s0 := t) (ad0 := ad0) hC hl hY hnL hrt hnm hT hmd v0 y6 (cn t) y14 r17  _ (fun t29 => ?_) FU (nI 0) s18
    refine gc_aload_n hG (v := .ref v0) (refV_a _) dX2_ahead_102 rfl rfl ?_
    refine gc_aload_n hG (v := .ref (cn t)) (refV_a _) dX2_ahead_103 rfl rfl ?_
    refine gc_gd (fun hk => ?_)
    refine gc_callV (f := fX2_all v0 (some (cn t)) t29) (As := [.ref (cn t)]) (rest := []) (n := 1) (d' := 3) (b := v0) hC hnL (wX2_all (gLn X) Y hl hY v0 (some (cn t)) t29) hk (ci := 2) rfl dX2_ahead_104 q820 q821 q822 q76 q823 ⟨by decide +kernel, by decide +kernel⟩ rfl (by decide) (by decide) (Nat.le_of_ble_eq_true rfl) (kn_V (fun r30 s31 => ?_)) kx_V
    refine gc_iload hG dX2_ahead_107 rfl ?_
    exact gc_iret hC hrt rfl rfl dX2_ahead_109
def fX1_unstashes (v0 : Nat) (v1 : Option Nat) (t : cS) : Option (Unit × cS) :=
  gd (cK t v0 = 2) (
  letv (cI t 11 v0) (fun x1 =>
  rv v1 (fun a2 =>
  gd (cK t a2 = 5) (
  letv (cR t 37 a2) (fun x3 =>
  gd (cK t a2 = 5) (
  letv (cR t 38 a2) (fun x4 =>
  rv x3 (fun a5 =>
  gd (cK t a5 = 3) (
  ob (fX2_ahead a5 x4 t) (fun r6 s7 =>
  gd (cK s7 v0 = 2) (
  letv (sI s7 11 v0 (x1 + r6)) (fun s8 =>
  gd (cK s8 a2 = 5) (
  letv (cR s8 38 a2) (fun x9 =>
  rv x9 (fun a10 =>
  gd (cK s8 a10 = 3) (
  ob (fX2_empties a10 s8) (fun r11 s12 =>
  (some ((), s12))
  )
  )
  )
  )
  )
  )
  )
  )
  )
  )
  )
  )
  )
  )
  )
  )
  )
theorem mfX1_unstashes (v0 : Nat) (v1 : Option Nat) (t : cS) : MO t (fX1_unstashes v0 v1 t) := by
  unfold fX1_unstashes
  refine mo_gd ?_
  refine mo_letv (fun _ => ?_)
  refine mo_rv (fun _ => ?_)
  refine mo_gd ?_
  refine mo_letv (fun _ => ?_)
  refine mo_gd ?_
  refine mo_letv (fun _ => ?_)
  refine mo_rv (fun _ => ?_)
  refine mo_gd ?_
  refine mo_ob (by apply mfX2_ahead) (fun _ _ => ?_)
  refine mo_gd ?_
  refine mo_letS cMo_sI (fun _ => ?_)
  refine mo_gd ?_
  refine mo_letv (fun _ => ?_)
  refine mo_rv (fun _ => ?_)
  refine mo_gd ?_
  refine mo_ob (by apply mfX2_empties) (fun _ _ => ?_)
  exact mo_some
set_option maxHeartbeats 4000000 in
theorem wX1_unstashes (l : Launch) (Y : cY) (hl : l.stackTraces = false) (hY : ∀ q, q < Y.2.2.2.2.size → ¬ Y.2.2.2.1 q) (v0 : Nat) (v1 : Option Nat) (t : cS) : cFn l Y yX1_unstashes (ws_ yX1_unstashes cX1_unstashes 2 none) 5 [.ref v0, vr v1] t (fX1_unstashes v0 v1 t) rV := by
  refine cmet (av := [.ref v0, vr v1]) (mfX1_unstashes v0 v1 t) hl hY (by decide +kernel) (lg_le (List.forall_mem_cons.mpr ⟨rfl, List.forall_mem_cons.mpr ⟨(cat_vr _), fun _ h => absurd h List.not_mem_nil⟩⟩) (Nat.le_of_ble_eq_true rfl)) (lv_args_cat (List.forall_mem_cons.mpr ⟨rfl, List.forall_mem_cons.mpr ⟨(cat_vr _), fun _ h => absurd h List.not_mem_nil⟩⟩)) ?_
  intro X ad0 hln hC hnL hrt hnm hT hmd
  subst hln
  have hG := hC.1
  rw [lv_args_s (List.forall_mem_cons.mpr ⟨rfl, List.forall_mem_cons.mpr ⟨(cat_vr _), fun _ h => absurd h List.not_mem_nil⟩⟩)]
  show GC X Y (cM Y X 2 t ad0 rV) _ t 0 [(0, .ref v0), (1, vr v1)] []
  unfold fX1_unstashes
  refine gc_aload_n hG (v := .ref v0) (refV_a _) dX1_unstashes_0 rfl rfl ?_
  refine gc_dup hG dX1_unstashes_1 rfl ?_
  refine gc_gd (fun hk => ?_)
  refine gc_get hC (ci := 1) (j := 5) (v := .int (cI t 11 v0)) hk dX1_unstashes_2 rfl (by decide) in_X1 q172 (fun _ h => h) rfl ?_
  refine gc_letv (fun x1 h_ => ?_)
  refine gc_aload_n hG (v := vr v1) (refV_x _) dX1_unstashes_5 rfl rfl ?_
  refine gc_rv (fun a2 h_ => ?_)
  subst h_
  refine gc_gd (fun hk => ?_)
  refine gc_getN hC (ci := 4) (j := 11) (v := vr (cR t 37 a2)) hk dX1_unstashes_6 rfl (by decide) in_X5 q313 (fun _ h => h) rfl ?_
  refine gc_letr (fun x3 h_ => ?_)
  refine gc_aload_n hG (v := .ref a2) (refV_a _) dX1_unstashes_9 rfl rfl ?_
  refine gc_gd (fun hk => ?_)
  refine gc_getN hC (ci := 4) (j := 12) (v := vr (cR t 38 a2)) hk dX1_unstashes_10 rfl (by decide) in_X5 q316 (fun _ h => h) rfl ?_
  refine gc_letr (fun x4 h_ => ?_)
  refine gc_rv (fun a5 h_ => ?_)
  subst h_
  refine gc_gd (fun hk => ?_)
  refine gc_callV (f := fX2_ahead a5 x4 t) (As := [vr x4]) (rest := [.int x1, .ref v0]) (n := 1) (d' := 4) (b := a5) hC hnL (wX2_ahead (gLn X) Y hl hY a5 x4 t) hk (ci := 2) rfl dX1_unstashes_13 q811 q812 q813 q76 q814 ⟨by decide +kernel, by decide +kernel⟩ rfl (by decide) (by decide) (Nat.le_of_ble_eq_true rfl) (kn_I (fun r6 s7 => ?_)) kx_I
  refine gc_iadd hG dX1_unstashes_16 ?_
  refine gc_gd (fun hk => ?_)
  have pt := pt_I (s := s7) (f := 11) (a := v0) (x := (x1 + r6)) rfl
  refine gc_put hC tyX1 tyX1_ok nmX1 hk dX1_unstashes_17 (ci := 1) (j := 5) (Or.inl (by decide)) rfl (by decide) in_X1 q172 (fun _ h => h) rfl (tyX1_ok 5 (by decide)) (fun _ => rfl) (fun _ => rfl) pt.1.1 pt.1.2.1 pt.1.2.2.1 pt.1.2.2.2 pt.2.1 pt.2.2.1 pt.2.2.2 ?_
  refine gc_letS (fun s8 => ?_)
  refine gc_aload_n hG (v := .ref a2) (refV_a _) dX1_unstashes_20 rfl rfl ?_
  refine gc_gd (fun hk => ?_)
  refine gc_getN hC (ci := 4) (j := 12) (v := vr (cR s8 38 a2)) hk dX1_unstashes_21 rfl (by decide) in_X5 q316 (fun _ h => h) rfl ?_
  refine gc_letr (fun x9 h_ => ?_)
  refine gc_rv (fun a10 h_ => ?_)
  subst h_
  refine gc_gd (fun hk => ?_)
  refine gc_callV (f := fX2_empties a10 s8) (As := []) (rest := []) (n := 0) (d' := 1) (b := a10) hC hnL (wX2_empties (gLn X) Y hl hY a10 s8) hk (ci := 2) rfl dX1_unstashes_24 q645 q646 q647 q76 q648 ⟨by decide +kernel, by decide +kernel⟩ rfl (by decide) (by decide) (Nat.le_of_ble_eq_true rfl) (kn_V (fun r11 s12 => ?_)) kx_V
  exact gc_vret hC hrt rfl dX1_unstashes_27
def fJ0_init (v0 : Nat) (t : cS) : Option (Unit × cS) :=
  gd (cK t v0 = 10 ∨ cK t v0 = 11 ∨ cK t v0 = 12 ∨ cK t v0 = 15) (
  letv (sR t 51 v0 (some v0)) (fun s1 =>
  letv (cR s1 52 299) (fun x2 =>
  gd (cK s1 v0 = 10 ∨ cK s1 v0 = 11 ∨ cK s1 v0 = 12 ∨ cK s1 v0 = 15) (
  letv (sR s1 52 v0 x2) (fun s3 =>
  letv (cR s3 53 299) (fun x4 =>
  gd (cK s3 v0 = 10 ∨ cK s3 v0 = 11 ∨ cK s3 v0 = 12 ∨ cK s3 v0 = 15) (
  letv (sR s3 53 v0 x4) (fun s5 =>
  gd (cR s5 52 v0 = cR s5 52 299 ∧ cR s5 55 v0 = none) (
  gd (cK s5 v0 = 10 ∨ cK s5 v0 = 11 ∨ cK s5 v0 = 12 ∨ cK s5 v0 = 15) (
  (some ((), s5))
  )
  )
  )
  )
  )
  )
  )
  )
  )
  )
theorem mfJ0_init (v0 : Nat) (t : cS) : MO t (fJ0_init v0 t) := by
  unfold fJ0_init
  refine mo_gd ?_
  refine mo_letS cMo_sR (fun _ => ?_)
  refine mo_letv (fun _ => ?_)
  refine mo_gd ?_
  refine mo_letS cMo_sR (fun _ => ?_)
  refine mo_letv (fun _ => ?_)
  refine mo_gd ?_
  refine mo_letS cMo_sR (fun _ => ?_)
  refine mo_gd ?_
  refine mo_gd ?_
  exact mo_some
set_option maxHeartbeats 4000000 in
theorem wJ0_init (l : Launch) (Y : cY) (hl : l.stackTraces = false) (hY : ∀ q, q < Y.2.2.2.2.size → ¬ Y.2.2.2.1 q) (v0 : Nat) (t : cS) : cFn l Y yJ0_init (ws_ yJ0_init cJ0_init 1 none) 1 [.ref v0] t (fJ0_init v0 t) rV := by
  refine cmet (av := [.ref v0]) (mfJ0_init v0 t) hl hY (by decide +kernel) (lg_le (List.forall_mem_cons.mpr ⟨rfl, fun _ h => absurd h List.not_mem_nil⟩) (Nat.le_of_ble_eq_true rfl)) (lv_args_cat (List.forall_mem_cons.mpr ⟨rfl, fun _ h => absurd h List.not_mem_nil⟩)) ?_
  intro X ad0 hln hC hnL hrt hnm hT hmd
  subst hln
  have hG := hC.1
  rw [lv_args_s (List.forall_mem_cons.mpr ⟨rfl, fun _ h => absurd h List.not_mem_nil⟩)]
  show GC X Y (cM Y X 1 t ad0 rV) _ t 0 [(0, .ref v0)] []
  unfold fJ0_init
  refine gc_aload_n hG (v := .ref v0) (refV_a _) dJ0_init_0 rfl rfl ?_
  refine gc_objInit hC hnL q507 q113 q114 dJ0_init_1 (Nat.le_of_ble_eq_true rfl) ?_
  refine gc_aload_n hG (v := .ref v0) (refV_a _) dJ0_init_4 rfl rfl ?_
  refine gc_aload_n hG (v := .ref v0) (refV_a _) dJ0_init_5 rfl rfl ?_
  refine gc_gd (fun hk => ?_)
  have pt := pt_R (s := t) (f := 51) (a := v0) (x := (some v0)) rfl
  refine gc_or4 hk (fun hk h_ => gc_put hC tyX11 tyX11_ok nmX11 hk dJ0_init_6 (ci := 9) (j := 0) (Or.inl (by decide)) rfl (by decide) in_X11 q545 (fun _ h => h) rfl (tyX11_ok 0 (by decide)) (nar_o (some v0)) (fit_o (some v0)) pt.1.1 pt.1.2.1 pt.1.2.2.1 pt.1.2.2.2 pt.2.1 pt.2.2.1 pt.2.2.2 h_) (fun hk h_ => gc_put hC tyX13 tyX13_ok nmX13 hk dJ0_init_6 (ci := 10) (j := 0) (Or.inl (by decide)) rfl (by decide) in_X13 q545 (fun _ h => h) rfl (tyX13_ok 0 (by decide)) (nar_o (some v0)) (fit_o (some v0)) pt.1.1 pt.1.2.1 pt.1.2.2.1 pt.1.2.2.2 pt.2.1 pt.2.2.1 pt.2.2.2 h_) (fun hk h_ => gc_put hC tyX14 tyX14_ok nmX14 hk dJ0_init_6 (ci := 11) (j := 0) (Or.inl (by decide)) rfl (by decide) in_X14 q545 (fun _ h => h) rfl (tyX14_ok 0 (by decide)) (nar_o (some v0)) (fit_o (some v0)) pt.1.1 pt.1.2.1 pt.1.2.2.1 pt.1.2.2.2 pt.2.1 pt.2.2.1 pt.2.2.2 h_) (fun hk h_ => gc_put hC tyX17 tyX17_ok nmX17 hk dJ0_init_6 (ci := 14) (j := 0) (Or.inl (by decide)) rfl (by decide) in_X17 q545 (fun _ h => h) rfl (tyX17_ok 0 (by decide)) (nar_o (some v0)) (fit_o (some v0)) pt.1.1 pt.1.2.1 pt.1.2.2.1 pt.1.2.2.2 pt.2.1 pt.2.2.1 pt.2.2.2 h_) ?_
  refine gc_letS (fun s1 => ?_)
  refine gc_aload_n hG (v := .ref v0) (refV_a _) dJ0_init_9 rfl rfl ?_
  refine gc_getUn hC q508 (fun _ h => h) dJ0_init_10 ?_
  refine gc_letr (fun x2 h_ => ?_)
  refine gc_gd (fun hk => ?_)
  have pt := pt_R (s := s1) (f := 52) (a := v0) (x := x2) rfl
  refine gc_or4 hk (fun hk h_ => gc_put hC tyX11 tyX11_ok nmX11 hk dJ0_init_13 (ci := 9) (j := 1) (Or.inl (by decide)) rfl (by decide) in_X11 q546 (fun _ h => h) rfl (tyX11_ok 1 (by decide)) (nar_a x2) (fit_a x2) pt.1.1 pt.1.2.1 pt.1.2.2.1 pt.1.2.2.2 pt.2.1 pt.2.2.1 pt.2.2.2 h_) (fun hk h_ => gc_put hC tyX13 tyX13_ok nmX13 hk dJ0_init_13 (ci := 10) (j := 1) (Or.inl (by decide)) rfl (by decide) in_X13 q546 (fun _ h => h) rfl (tyX13_ok 1 (by decide)) (nar_a x2) (fit_a x2) pt.1.1 pt.1.2.1 pt.1.2.2.1 pt.1.2.2.2 pt.2.1 pt.2.2.1 pt.2.2.2 h_) (fun hk h_ => gc_put hC tyX14 tyX14_ok nmX14 hk dJ0_init_13 (ci := 11) (j := 1) (Or.inl (by decide)) rfl (by decide) in_X14 q546 (fun _ h => h) rfl (tyX14_ok 1 (by decide)) (nar_a x2) (fit_a x2) pt.1.1 pt.1.2.1 pt.1.2.2.1 pt.1.2.2.2 pt.2.1 pt.2.2.1 pt.2.2.2 h_) (fun hk h_ => gc_put hC tyX17 tyX17_ok nmX17 hk dJ0_init_13 (ci := 14) (j := 1) (Or.inl (by decide)) rfl (by decide) in_X17 q546 (fun _ h => h) rfl (tyX17_ok 1 (by decide)) (nar_a x2) (fit_a x2) pt.1.1 pt.1.2.1 pt.1.2.2.1 pt.1.2.2.2 pt.2.1 pt.2.2.1 pt.2.2.2 h_) ?_
  refine gc_letS (fun s3 => ?_)
  refine gc_aload_n hG (v := .ref v0) (refV_a _) dJ0_init_16 rfl rfl ?_
  refine gc_getSu hC q510 (fun _ h => h) dJ0_init_17 ?_
  refine gc_letr (fun x4 h_ => ?_)
  refine gc_gd (fun hk => ?_)
  have pt := pt_R (s := s3) (f := 53) (a := v0) (x := x4) rfl
  refine gc_or4 hk (fun hk h_ => gc_put hC tyX11 tyX11_ok nmX11 hk dJ0_init_20 (ci := 9) (j := 2) (Or.inl (by decide)) rfl (by decide) in_X11 q547 (fun _ h => h) rfl (tyX11_ok 2 (by decide)) (nar_o x4) (fit_o x4) pt.1.1 pt.1.2.1 pt.1.2.2.1 pt.1.2.2.2 pt.2.1 pt.2.2.1 pt.2.2.2 h_) (fun hk h_ => gc_put hC tyX13 tyX13_ok nmX13 hk dJ0_init_20 (ci := 10) (j := 2) (Or.inl (by decide)) rfl (by decide) in_X13 q547 (fun _ h => h) rfl (tyX13_ok 2 (by decide)) (nar_o x4) (fit_o x4) pt.1.1 pt.1.2.1 pt.1.2.2.1 pt.1.2.2.2 pt.2.1 pt.2.2.1 pt.2.2.2 h_) (fun hk h_ => gc_put hC tyX14 tyX14_ok nmX14 hk dJ0_init_20 (ci := 11) (j := 2) (Or.inl (by decide)) rfl (by decide) in_X14 q547 (fun _ h => h) rfl (tyX14_ok 2 (by decide)) (nar_o x4) (fit_o x4) pt.1.1 pt.1.2.1 pt.1.2.2.1 pt.1.2.2.2 pt.2.1 pt.2.2.1 pt.2.2.2 h_) (fun hk h_ => gc_put hC tyX17 tyX17_ok nmX17 hk dJ0_init_20 (ci := 14) (j := 2) (Or.inl (by decide)) rfl (by decide) in_X17 q547 (fun _ h => h) rfl (tyX17_ok 2 (by decide)) (nar_o x4) (fit_o x4) pt.1.1 pt.1.2.1 pt.1.2.2.1 pt.1.2.2.2 pt.2.1 pt.2.2.1 pt.2.2.2 h_) ?_
  refine gc_letS (fun s5 => ?_)
  refine gc_aload_n hG (v := .ref v0) (refV_a _) dJ0_init_23 rfl rfl ?_
  refine gc_gd (fun hu => ?_)
  refine gc_gd (fun hk => ?_)
  refine gc_or4 hk (fun hk h_ => gc_fill hC hnL hk (ci := 9) (jS := 1) (jB := 4) rfl (by decide) (by decide) (by decide) rfl rfl in_X11 rfl rfl hu.1 hu.2 q515 q730 dJ0_init_24 (Nat.le_of_ble_eq_true rfl) h_) (fun hk h_ => gc_fill hC hnL hk (ci := 10) (jS := 1) (jB := 4) rfl (by decide) (by decide) (by decide) rfl rfl in_X13 rfl rfl hu.1 hu.2 q517 q792 dJ0_init_24 (Nat.le_of_ble_eq_true rfl) h_) (fun hk h_ => gc_fill hC hnL hk (ci := 11) (jS := 1) (jB := 4) rfl (by decide) (by decide) (by decide) rfl rfl in_X14 rfl rfl hu.1 hu.2 q516 q871 dJ0_init_24 (Nat.le_of_ble_eq_true rfl) h_) (fun hk h_ => gc_fill hC hnL hk (ci := 14) (jS := 1) (jB := 4) rfl (by decide) (by decide) (by decide) rfl rfl in_X17 rfl rfl hu.1 hu.2 q518 q1141 dJ0_init_24 (Nat.le_of_ble_eq_true rfl) h_) ?_
  refine gc_pop hG dJ0_init_27 rfl ?_
  exact gc_vret hC hrt rfl dJ0_init_28
def fJ1_init (v0 : Nat) (t : cS) : Option (Unit × cS) :=
  ob (fJ0_init v0 t) (fun r1 s2 =>
  (some ((), s2))
  )
theorem mfJ1_init (v0 : Nat) (t : cS) : MO t (fJ1_init v0 t) := by
  unfold fJ1_init
  refine mo_ob (by apply mfJ0_init) (fun _ _ => ?_)
  exact mo_some
set_option maxHeartbeats 4000000 in
theorem wJ1_init (l : Launch) (Y : cY) (hl : l.stackTraces = false) (hY : ∀ q, q < Y.2.2.2.2.size → ¬ Y.2.2.2.1 q) (v0 : Nat) (t : cS) : cFn l Y yJ1_init (ws_ yJ1_init cJ1_init 1 none) 2 [.ref v0] t (fJ1_init v0 t) rV := by
  refine cmet (av := [.ref v0]) (mfJ1_init v0 t) hl hY (by decide +kernel) (lg_le (List.forall_mem_cons.mpr ⟨rfl, fun _ h => absurd h List.not_mem_nil⟩) (Nat.le_of_ble_eq_true rfl)) (lv_args_cat (List.forall_mem_cons.mpr ⟨rfl, fun _ h => absurd h List.not_mem_nil⟩)) ?_
  intro X ad0 hln hC hnL hrt hnm hT hmd
  subst hln
  have hG := hC.1
  rw [lv_args_s (List.forall_mem_cons.mpr ⟨rfl, fun _ h => absurd h List.not_mem_nil⟩)]
  show GC X Y (cM Y X 1 t ad0 rV) _ t 0 [(0, .ref v0)] []
  unfold fJ1_init
  refine gc_aload_n hG (v := .ref v0) (refV_a _) dJ1_init_0 rfl rfl ?_
  refine gc_callI (f := fJ0_init v0 t) (As := []) (rest := []) (n := 0) (d' := 1) (b := v0) hC hnL (wJ0_init (gLn X) Y hl hY v0 t) dJ1_init_1 q504 q505 q84 q506 ⟨by decide +kernel, by decide +kernel⟩ rfl rfl (by decide) (by decide) (Nat.le_of_ble_eq_true rfl) (kn_V (fun r1 s2 => ?_)) kx_V
  exact gc_vret hC hrt rfl dJ1_init_4
def fX12_init (v0 : Nat) (t : cS) : Option (Unit × cS) :=
  ob (fJ1_init v0 t) (fun r1 s2 =>
  (some ((), s2))
  )
theorem mfX12_init (v0 : Nat) (t : cS) : MO t (fX12_init v0 t) := by
  unfold fX12_init
  refine mo_ob (by apply mfJ1_init) (fun _ _ => ?_)
  exact mo_some
set_option maxHeartbeats 4000000 in
theorem wX12_init (l : Launch) (Y : cY) (hl : l.stackTraces = false) (hY : ∀ q, q < Y.2.2.2.2.size → ¬ Y.2.2.2.1 q) (v0 : Nat) (t : cS) : cFn l Y yX12_init (ws_ yX12_init cX12_init 1 none) 3 [.ref v0] t (fX12_init v0 t) rV := by
  refine cmet (av := [.ref v0]) (mfX12_init v0 t) hl hY (by decide +kernel) (lg_le (List.forall_mem_cons.mpr ⟨rfl, fun _ h => absurd h List.not_mem_nil⟩) (Nat.le_of_ble_eq_true rfl)) (lv_args_cat (List.forall_mem_cons.mpr ⟨rfl, fun _ h => absurd h List.not_mem_nil⟩)) ?_
  intro X ad0 hln hC hnL hrt hnm hT hmd
  subst hln
  have hG := hC.1
  rw [lv_args_s (List.forall_mem_cons.mpr ⟨rfl, fun _ h => absurd h List.not_mem_nil⟩)]
  show GC X Y (cM Y X 1 t ad0 rV) _ t 0 [(0, .ref v0)] []
  unfold fX12_init
  refine gc_aload_n hG (v := .ref v0) (refV_a _) dX12_init_0 rfl rfl ?_
  refine gc_callI (f := fJ1_init v0 t) (As := []) (rest := []) (n := 0) (d' := 2) (b := v0) hC hnL (wJ1_init (gLn X) Y hl hY v0 t) dX12_init_1 q804 q502 q85 q503 ⟨by decide +kernel, by decide +kernel⟩ rfl rfl (by decide) (by decide) (Nat.le_of_ble_eq_true rfl) (kn_V (fun r1 s2 => ?_)) kx_V
  exact gc_vret hC hrt rfl dX12_init_4
def fX13_init (v0 : Nat) (t : cS) : Option (Unit × cS) :=
  ob (fX12_init v0 t) (fun r1 s2 =>
  (some ((), s2))
  )
theorem mfX13_init (v0 : Nat) (t : cS) : MO t (fX13_init v0 t) := by
  unfold fX13_init
  refine mo_ob (by apply mfX12_init) (fun _ _ => ?_)
  exact mo_some
set_option maxHeartbeats 4000000 in
theorem wX13_init (l : Launch) (Y : cY) (hl : l.stackTraces = false) (hY : ∀ q, q < Y.2.2.2.2.size → ¬ Y.2.2.2.1 q) (v0 : Nat) (t : cS) : cFn l Y yX13_init (ws_ yX13_init cX13_init 1 none) 4 [.ref v0] t (fX13_init v0 t) rV := by
  refine cmet (av := [.ref v0]) (mfX13_init v0 t) hl hY (by decide +kernel) (lg_le (List.forall_mem_cons.mpr ⟨rfl, fun _ h => absurd h List.not_mem_nil⟩) (Nat.le_of_ble_eq_true rfl)) (lv_args_cat (List.forall_mem_cons.mpr ⟨rfl, fun _ h => absurd h List.not_mem_nil⟩)) ?_
  intro X ad0 hln hC hnL hrt hnm hT hmd
  subst hln
  have hG := hC.1
  rw [lv_args_s (List.forall_mem_cons.mpr ⟨rfl, fun _ h => absurd h List.not_mem_nil⟩)]
  show GC X Y (cM Y X 1 t ad0 rV) _ t 0 [(0, .ref v0)] []
  unfold fX13_init
  refine gc_aload_n hG (v := .ref v0) (refV_a _) dX13_init_0 rfl rfl ?_
  refine gc_callIN (f := fX12_init v0 t) (As := []) (rest := []) (n := 0) (d' := 3) (b := v0) hC hnL (wX12_init (gLn X) Y hl hY v0 t) dX13_init_1 q801 q802 q92 q803 ⟨by decide +kernel, by decide +kernel⟩ rfl rfl (by decide) (by decide) (Nat.le_of_ble_eq_true rfl) (kn_V (fun r1 s2 => ?_)) kx_V
  exact gc_vret hC hrt rfl dX13_init_4
def fX5_stashes (v0 : Nat) (v1 : Option Nat) (t : cS) : Option ((Unit ⊕ Nat) × cS) :=
  gd (cK t v0 = 5) (
  letv (cR t 38 v0) (fun x1 =>
  rv x1 (fun a2 =>
  gd (cK t a2 = 3) (
  ob (fX2_puts a2 v1 t) (fun r3 s4 =>
  if r3 = 0 then
    letv (sN s4 11 0 6) (fun s5 =>
    ob (fX13_init (cn s4) s5) (fun r6 s7 =>
    gd (cK s7 (cn s4) = 11) (
    some (.inr (cn s4), s7)
    )
    )
    )
  else
    (some ((.inl ()), s4))
  )
  )
  )
  )
  )
theorem mfX5_stashes (v0 : Nat) (v1 : Option Nat) (t : cS) : MO t (fX5_stashes v0 v1 t) := by
  unfold fX5_stashes
  refine mo_gd ?_
  refine mo_letv (fun _ => ?_)
  refine mo_rv (fun _ => ?_)
  refine mo_gd ?_
  refine mo_ob (by apply mfX2_puts) (fun _ _ => ?_)
  refine mo_ite ?_ ?_
  · refine mo_letS cMo_sN (fun _ => ?_)
    refine mo_ob (by apply mfX13_init) (fun _ _ => ?_)
    refine mo_gd ?_
    exact mo_some
  · exact mo_some
set_option maxHeartbeats 4000000 in
theorem wX5_stashes (l : Launch) (Y : cY) (hl : l.stackTraces = false) (hY : ∀ q, q < Y.2.2.2.2.size → ¬ Y.2.2.2.1 q) (v0 : Nat) (v1 : Option Nat) (t : cS) : cFn l Y yX5_stashes (ws_ yX5_stashes cX5_stashes 2 none) 5 [.ref v0, vr v1] t (fX5_stashes v0 v1 t) rVx := by
  refine cmet (av := [.ref v0, vr v1]) (mfX5_stashes v0 v1 t) hl hY (by decide +kernel) (lg_le (List.forall_mem_cons.mpr ⟨rfl, List.forall_mem_cons.mpr ⟨(cat_vr _), fun _ h => absurd h List.not_mem_nil⟩⟩) (Nat.le_of_ble_eq_true rfl)) (lv_args_cat (List.forall_mem_cons.mpr ⟨rfl, List.forall_mem_cons.mpr ⟨(cat_vr _), fun _ h => absurd h List.not_mem_nil⟩⟩)) ?_
  intro X ad0 hln hC hnL hrt hnm hT hmd
  subst hln
  have hG := hC.1
  rw [lv_args_s (List.forall_mem_cons.mpr ⟨rfl, List.forall_mem_cons.mpr ⟨(cat_vr _), fun _ h => absurd h List.not_mem_nil⟩⟩)]
  show GC X Y (cM Y X 2 t ad0 rVx) _ t 0 [(0, .ref v0), (1, vr v1)] []
  unfold fX5_stashes
  refine gc_aload_n hG (v := .ref v0) (refV_a _) dX5_stashes_0 rfl rfl ?_
  refine gc_gd (fun hk => ?_)
  refine gc_get hC (ci := 4) (j := 12) (v := vr (cR t 38 v0)) hk dX5_stashes_1 rfl (by decide) in_X5 q315 (fun _ h => h) rfl ?_
  refine gc_letr (fun x1 h_ => ?_)
  refine gc_aload_n hG (v := vr v1) (refV_x _) dX5_stashes_4 rfl rfl ?_
  refine gc_rv (fun a2 h_ => ?_)
  subst h_
  refine gc_gd (fun hk => ?_)
  refine gc_callV (f := fX2_puts a2 v1 t) (As := [vr v1]) (rest := []) (n := 1) (d' := 2) (b := a2) hC hnL (wX2_puts (gLn X) Y hl hY a2 v1 t) hk (ci := 2) rfl dX5_stashes_5 q787 q395 q396 q76 q397 ⟨by decide +kernel, by decide +kernel⟩ rfl (by decide) (by decide) (Nat.le_of_ble_eq_true rfl) (kn_I (fun r3 s4 => ?_)) kx_I
  refine gc_if_ne hG (tgt := 19) dX5_stashes_8 (by decide) ?_ ?_
  · refine gc_new hC (ci := 10) tyX13 tyX13_ok rfl in_X13 dX5_stashes_11 q788 q789 q93 (by decide +kernel) ?_
    refine gc_letS (fun s5 => ?_)
    refine gc_dup hG dX5_stashes_14 rfl ?_
    refine gc_callIN (f := fX13_init (cn s4) s5) (As := []) (rest := [.ref (cn s4)]) (n := 0) (d' := 4) (b := (cn s4)) hC hnL (wX13_init (gLn X) Y hl hY (cn s4) s5) dX5_stashes_15 q798 q799 q93 q800 ⟨by decide +kernel, by decide +kernel⟩ rfl rfl (by decide) (by decide) (Nat.le_of_ble_eq_true rfl) (kn_V (fun r6 s7 => ?_)) kx_V
    refine gc_athrow hG dX5_stashes_18 ?_
    refine gx_gd (fun hk => ?_)
    exact gx_outR hC hk (ci := 10) rfl rfl (by rw [hT]; intro z hz; cases hz)
  · exact gc_vret hC hrt rfl dX5_stashes_19
