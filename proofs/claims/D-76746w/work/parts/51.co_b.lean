/-! the component: walks, by program (gen/cgen.py) -/
def fX1_childrenOf_L4 (v0 : Nat) (v1 : Int32) (kx : Int32 → cS → Option (Int32 × cS)) : Nat → Int32 → Int32 → cS → Option (Int32 × cS)
  | 0, _, _, _ => none
  | k + 1, v2, v3, t =>
    gd (cK t v0 = 2) (
    letv (cI t 7 v0) (fun x1 =>
    if v3 < x1 then
      gd (cK t v0 = 2) (
      letv (cR t 6 v0) (fun x2 =>
      rv x2 (fun a3 =>
      gd (cK t a3 = 23 ∧ cIn t a3 v3) (
      letv (cR t (er (v3).toNatClampNeg) a3) (fun x4 =>
      rv x4 (fun a5 =>
      gd (cK t a5 = 5) (
      letv (cI t 27 a5) (fun x6 =>
      jn (fun (x7 : Int32) (t8 : cS) =>
        letv ((v2 ||| x7)) (fun y10 =>
        letv (v3 + (nI 1)) (fun y11 =>
        fX1_childrenOf_L4 v0 v1 kx k y10 y11 t8
        )
        )
        ) (fun (j9 : Int32 → cS → Option (Int32 × cS)) =>
        if x6 = v1 then
          j9 (ishl32 (nI 1) v3) t
        else
          j9 (nI 0) t
        )
      )
      )
      )
      )
      )
      )
      )
      )
    else
      kx v2 t
    )
    )
theorem mfX1_childrenOf_L4 (v0 : Nat) (v1 : Int32) (kx : Int32 → cS → Option (Int32 × cS)) (hkx : ∀ (v2 : Int32) (t : cS), MO t (kx v2 t)) : ∀ (k : Nat) (v2 : Int32) (v3 : Int32) (t : cS), MO t (fX1_childrenOf_L4 v0 v1 kx k v2 v3 t) := by
  intro k
  induction k with
  | zero => intro v2 v3 t; exact mo_none
  | succ k ih =>
    intro v2 v3 t
    rw [fX1_childrenOf_L4]
    refine mo_gd ?_
    refine mo_letv (fun _ => ?_)
    refine mo_ite ?_ ?_
    · refine mo_gd ?_
      refine mo_letv (fun _ => ?_)
      refine mo_rv (fun _ => ?_)
      refine mo_gd ?_
      refine mo_letv (fun _ => ?_)
      refine mo_rv (fun _ => ?_)
      refine mo_gd ?_
      refine mo_letv (fun _ => ?_)
      refine mo_jn (fun j_ => ∀ ( x7 : Int32 ) ( t8 : cS ), MO t8 (j_ x7 t8)) (fun x7 t8 => ?_) (fun j9 hj9 => ?_)
      · refine mo_letv (fun _ => ?_)
        refine mo_letv (fun _ => ?_)
        exact ih _ _ _
      · refine mo_ite ?_ ?_
        · exact hj9 _ _
        · exact hj9 _ _
    · exact hkx _ _
set_option maxHeartbeats 4000000 in
theorem gfX1_childrenOf_L4 {X : gCx} {Y : cY} {s0 : cS} {ad0 : Nat → Nat} (hC : cOk X Y RX1 cX1_childrenOf 1) (hl : (gLn X).stackTraces = false) (hY : ∀ q, q < Y.2.2.2.2.size → ¬ Y.2.2.2.1 q) (hnL : gLoc X = 4) (hrt : gRet X = (some .int)) (hnm : X.2.2.2.2.2.2.2.2.1.name = "childrenOf") (hT : gTab X = []) (hmd : (gSt X).methodNamed? yX1_childrenOf = some (gMe X)) (v0 : Nat) (v1 : Int32) (kx : Int32 → cS → Option (Int32 × cS)) (hkx : ∀ (v2 : Int32) (t : cS), GC X Y (cM Y X 4 s0 ad0 rI) (kx v2 t) t 41 [(2, .int v2)] []) : ∀ (k : Nat) (v2 : Int32) (v3 : Int32) (t : cS), GC X Y (cM Y X 4 s0 ad0 rI) (fX1_childrenOf_L4 v0 v1 kx k v2 v3 t) t 4 [(0, .ref v0), (1, .int v1), (2, .int v2), (3, .int v3)] [] := by
  have hG := hC.1
  intro k
  induction k with
  | zero => intro v2 v3 t; exact gc_none
  | succ k ih =>
    intro v2 v3 t
    rw [fX1_childrenOf_L4]
    refine gc_iload_n hG dX1_childrenOf_4 rfl rfl ?_
    refine gc_aload_n hG (v := .ref v0) (refV_a _) dX1_childrenOf_5 rfl rfl ?_
    refine gc_gd (fun hk => ?_)
    refine gc_get hC (ci := 1) (j := 1) (v := .int (cI t 7 v0)) hk dX1_childrenOf_6 rfl (by decide) in_X1 q162 (fun _ h => h) rfl ?_
    refine gc_letv (fun x1 h_ => ?_)
    refine gc_icmp_ge hG (tgt := 41) dX1_childrenOf_9 (by decide) ?_ ?_
    · refine gc_iload_n hG dX1_childrenOf_12 rfl rfl ?_
      refine gc_aload_n hG (v := .ref v0) (refV_a _) dX1_childrenOf_13 rfl rfl ?_
      refine gc_gd (fun hk => ?_)
      refine gc_get hC (ci := 1) (j := 0) (v := vr (cR t 6 v0)) hk dX1_childrenOf_14 rfl (by decide) in_X1 q158 (fun _ h => h) rfl ?_
      refine gc_letr (fun x2 h_ => ?_)
      refine gc_iload_n hG dX1_childrenOf_17 rfl rfl ?_
      refine gc_rv (fun a3 h_ => ?_)
      subst h_
      refine gc_gd (fun hk => ?_)
      refine gc_aald hC hk.1 (by decide) (by decide) (t0 := 3) rfl hk.2 dX1_childrenOf_18 ?_
      refine gc_letr (fun x4 h_ => ?_)
      refine gc_rv (fun a5 h_ => ?_)
      subst h_
      refine gc_gd (fun hk => ?_)
      refine gc_getN hC (ci := 4) (j := 1) (v := .int (cI t 27 a5)) hk dX1_childrenOf_19 rfl (by decide) in_X5 q287 (fun _ h => h) rfl ?_
      refine gc_letv (fun x6 h_ => ?_)
      refine gc_iload_n hG dX1_childrenOf_22 rfl rfl ?_
      refine gc_jn (fun j_ => ∀ (x7 : Int32) (t8 : cS), GC X Y (cM Y X 4 s0 ad0 rI) (j_ x7 t8) t8 33 [(0, .ref v0), (1, .int v1), (3, .int v3)] [.int x7, .int v2]) (fun x7 t8 => ?_) (fun j9 hj9 => ?_)
      · refine gc_ior hG dX1_childrenOf_33 ?_
        refine gc_letv (fun y10 hy10 => ?_)
        refine gc_istore_n hG dX1_childrenOf_34 rfl (Nat.le_of_ble_eq_true rfl) (lv' := [(0, _), (1, _), (2, _), (3, _)]) rfl ?_
        refine gc_letiinc hG (c := (nI 1)) (lv' := fun y11 => [(0, .ref v0), (1, .int v1), (2, .int y10), (3, .int y11)]) dX1_childrenOf_35 rfl (by decide) (Nat.le_of_ble_eq_true rfl) (fun _ => rfl) (fun y11 => ?_)
        refine gc_goto hG (tgt := 4) dX1_childrenOf_38 (by decide) ?_
        exact ih y10 y11 t8
      · refine gc_icmp_ne hG (tgt := 32) dX1_childrenOf_23 (by decide) ?_ ?_
        · refine gc_iconst hG (nI 1) dX1_childrenOf_26 (by decide) ?_
          refine gc_iload_n hG dX1_childrenOf_27 rfl rfl ?_
          refine gc_ishl hG dX1_childrenOf_28 ?_
          refine gc_goto hG (tgt := 33) dX1_childrenOf_29 (by decide) ?_
          refine gc_sub [0, 1, 3] rfl ?_
          exact hj9 (ishl32 (nI 1) v3) t
        · refine gc_iconst hG (nI 0) dX1_childrenOf_32 (by decide) ?_
          refine gc_sub [0, 1, 3] rfl ?_
          exact hj9 (nI 0) t
    · refine gc_sub [2] rfl ?_
      exact hkx v2 t
def fX1_childrenOf (v0 : Nat) (v1 : Int32) (t : cS) : Option (Int32 × cS) :=
  fX1_childrenOf_L4 v0 v1 (fun (v2_12 : Int32) (t13 : cS) =>
    (some (v2_12, t13))
    ) FU (nI 0) (nI 0) t
theorem mfX1_childrenOf (v0 : Nat) (v1 : Int32) (t : cS) : MO t (fX1_childrenOf v0 v1 t) := by
  unfold fX1_childrenOf
  refine mfX1_childrenOf_L4 _ _ _ (fun _ _ => ?_) _ _ _ _
  exact mo_some
set_option maxHeartbeats 4000000 in
theorem wX1_childrenOf (l : Launch) (Y : cY) (hl : l.stackTraces = false) (hY : ∀ q, q < Y.2.2.2.2.size → ¬ Y.2.2.2.1 q) (v0 : Nat) (v1 : Int32) (t : cS) : cFn l Y yX1_childrenOf (ws_ yX1_childrenOf cX1_childrenOf 4 (some .int)) 1 [.ref v0, .int v1] t (fX1_childrenOf v0 v1 t) rI := by
  refine cmet (av := [.ref v0, .int v1]) (mfX1_childrenOf v0 v1 t) hl hY (by decide +kernel) (lg_le (List.forall_mem_cons.mpr ⟨rfl, List.forall_mem_cons.mpr ⟨rfl, fun _ h => absurd h List.not_mem_nil⟩⟩) (Nat.le_of_ble_eq_true rfl)) (lv_args_cat (List.forall_mem_cons.mpr ⟨rfl, List.forall_mem_cons.mpr ⟨rfl, fun _ h => absurd h List.not_mem_nil⟩⟩)) ?_
  intro X ad0 hln hC hnL hrt hnm hT hmd
  subst hln
  have hG := hC.1
  rw [lv_args_s (List.forall_mem_cons.mpr ⟨rfl, List.forall_mem_cons.mpr ⟨rfl, fun _ h => absurd h List.not_mem_nil⟩⟩)]
  show GC X Y (cM Y X 4 t ad0 rI) _ t 0 [(0, .ref v0), (1, .int v1)] []
  unfold fX1_childrenOf
  refine gc_iconst hG (nI 0) dX1_childrenOf_0 (by decide) ?_
  refine gc_istore_n hG dX1_childrenOf_1 rfl (Nat.le_of_ble_eq_true rfl) (lv' := [(0, _), (1, _), (2, _)]) rfl ?_
  refine gc_iconst hG (nI 0) dX1_childrenOf_2 (by decide) ?_
  refine gc_istore_n hG dX1_childrenOf_3 rfl (Nat.le_of_ble_eq_true rfl) (lv' := [(0, _), (1, _), (2, _), (3, _)]) rfl ?_
  refine gfX1_childrenOf_L4 (s0 := t) (ad0 := ad0) hC hl hY hnL hrt hnm hT hmd v0 v1 _ (fun v2_12 t13 => ?_) FU (nI 0) (nI 0) t
  refine gc_iload_n hG dX1_childrenOf_41 rfl rfl ?_
  exact gc_iret hC hrt rfl rfl dX1_childrenOf_42
def fX9_init (v0 : Nat) (v1 : Option Nat) (t : cS) : Option (Unit × cS) :=
  gd (cK t v0 = 8) (
  letv (sR t 49 v0 v1) (fun s1 =>
  gd (cK s1 v0 = 8) (
  letv (cR s1 49 v0) (fun x2 =>
  rv x2 (fun a3 =>
  gd (cK s1 a3 = 3) (
  letv (cR s1 22 a3) (fun x4 =>
  gd (cK s1 v0 = 8) (
  letv (sR s1 48 v0 x4) (fun s5 =>
  (some ((), s5))
  )
  )
  )
  )
  )
  )
  )
  )
  )
theorem mfX9_init (v0 : Nat) (v1 : Option Nat) (t : cS) : MO t (fX9_init v0 v1 t) := by
  unfold fX9_init
  refine mo_gd ?_
  refine mo_letS cMo_sR (fun _ => ?_)
  refine mo_gd ?_
  refine mo_letv (fun _ => ?_)
  refine mo_rv (fun _ => ?_)
  refine mo_gd ?_
  refine mo_letv (fun _ => ?_)
  refine mo_gd ?_
  refine mo_letS cMo_sR (fun _ => ?_)
  exact mo_some
set_option maxHeartbeats 4000000 in
theorem wX9_init (l : Launch) (Y : cY) (hl : l.stackTraces = false) (hY : ∀ q, q < Y.2.2.2.2.size → ¬ Y.2.2.2.1 q) (v0 : Nat) (v1 : Option Nat) (t : cS) : cFn l Y yX9_init (ws_ yX9_init cX9_init 2 none) 1 [.ref v0, vr v1] t (fX9_init v0 v1 t) rV := by
  refine cmet (av := [.ref v0, vr v1]) (mfX9_init v0 v1 t) hl hY (by decide +kernel) (lg_le (List.forall_mem_cons.mpr ⟨rfl, List.forall_mem_cons.mpr ⟨(cat_vr _), fun _ h => absurd h List.not_mem_nil⟩⟩) (Nat.le_of_ble_eq_true rfl)) (lv_args_cat (List.forall_mem_cons.mpr ⟨rfl, List.forall_mem_cons.mpr ⟨(cat_vr _), fun _ h => absurd h List.not_mem_nil⟩⟩)) ?_
  intro X ad0 hln hC hnL hrt hnm hT hmd
  subst hln
  have hG := hC.1
  rw [lv_args_s (List.forall_mem_cons.mpr ⟨rfl, List.forall_mem_cons.mpr ⟨(cat_vr _), fun _ h => absurd h List.not_mem_nil⟩⟩)]
  show GC X Y (cM Y X 2 t ad0 rV) _ t 0 [(0, .ref v0), (1, vr v1)] []
  unfold fX9_init
  refine gc_aload_n hG (v := .ref v0) (refV_a _) dX9_init_0 rfl rfl ?_
  refine gc_aload_n hG (v := vr v1) (refV_x _) dX9_init_1 rfl rfl ?_
  refine gc_gd (fun hk => ?_)
  have pt := pt_R (s := t) (f := 49) (a := v0) (x := v1) rfl
  refine gc_putF hC tyX9 tyX9_ok nmX9 hk dX9_init_2 (ci := 7) (j := 1) (Or.inl (by decide)) rfl (by decide) in_X9 q445 (fun _ h => h) rfl (by rw [hnm]; rfl) rfl (tyX9_ok 1 (by decide)) (nar_o v1) (fit_o v1) pt.1.1 pt.1.2.1 pt.1.2.2.1 pt.1.2.2.2 pt.2.1 pt.2.2.1 pt.2.2.2 ?_
  refine gc_letS (fun s1 => ?_)
  refine gc_aload_n hG (v := .ref v0) (refV_a _) dX9_init_5 rfl rfl ?_
  refine gc_objInit hC hnL q443 q113 q114 dX9_init_6 (Nat.le_of_ble_eq_true rfl) ?_
  refine gc_aload_n hG (v := .ref v0) (refV_a _) dX9_init_9 rfl rfl ?_
  refine gc_aload_n hG (v := .ref v0) (refV_a _) dX9_init_10 rfl rfl ?_
  refine gc_gd (fun hk => ?_)
  refine gc_get hC (ci := 7) (j := 1) (v := vr (cR s1 49 v0)) hk dX9_init_11 rfl (by decide) in_X9 q445 (fun _ h => h) rfl ?_
  refine gc_letr (fun x2 h_ => ?_)
  refine gc_rv (fun a3 h_ => ?_)
  subst h_
  refine gc_gd (fun hk => ?_)
  refine gc_getN hC (ci := 2) (j := 1) (v := vr (cR s1 22 a3)) hk dX9_init_14 rfl (by decide) in_X2 q130 (fun _ h => h) rfl ?_
  refine gc_letr (fun x4 h_ => ?_)
  refine gc_gd (fun hk => ?_)
  have pt := pt_R (s := s1) (f := 48) (a := v0) (x := x4) rfl
  refine gc_put hC tyX9 tyX9_ok nmX9 hk dX9_init_17 (ci := 7) (j := 0) (Or.inl (by decide)) rfl (by decide) in_X9 q444 (fun _ h => h) rfl (tyX9_ok 0 (by decide)) (nar_o x4) (fit_o x4) pt.1.1 pt.1.2.1 pt.1.2.2.1 pt.1.2.2.2 pt.2.1 pt.2.2.1 pt.2.2.2 ?_
  refine gc_letS (fun s5 => ?_)
  exact gc_vret hC hrt rfl dX9_init_20
def fX2_iterator (v0 : Nat) (t : cS) : Option (Option Nat × cS) :=
  letv (sN t 8 0 2) (fun s1 =>
  ob (fX9_init (cn t) (some v0) s1) (fun r2 s3 =>
  (some ((some (cn t)), s3))
  )
  )
theorem mfX2_iterator (v0 : Nat) (t : cS) : MO t (fX2_iterator v0 t) := by
  unfold fX2_iterator
  refine mo_letS cMo_sN (fun _ => ?_)
  refine mo_ob (by apply mfX9_init) (fun _ _ => ?_)
  exact mo_some
set_option maxHeartbeats 4000000 in
theorem wX2_iterator (l : Launch) (Y : cY) (hl : l.stackTraces = false) (hY : ∀ q, q < Y.2.2.2.2.size → ¬ Y.2.2.2.1 q) (v0 : Nat) (t : cS) : cFn l Y yX2_iterator (ws_ yX2_iterator cX2_iterator 1 (some (.object "java/util/Iterator"))) 2 [.ref v0] t (fX2_iterator v0 t) rR := by
  refine cmet (av := [.ref v0]) (mfX2_iterator v0 t) hl hY (by decide +kernel) (lg_le (List.forall_mem_cons.mpr ⟨rfl, fun _ h => absurd h List.not_mem_nil⟩) (Nat.le_of_ble_eq_true rfl)) (lv_args_cat (List.forall_mem_cons.mpr ⟨rfl, fun _ h => absurd h List.not_mem_nil⟩)) ?_
  intro X ad0 hln hC hnL hrt hnm hT hmd
  subst hln
  have hG := hC.1
  rw [lv_args_s (List.forall_mem_cons.mpr ⟨rfl, fun _ h => absurd h List.not_mem_nil⟩)]
  show GC X Y (cM Y X 1 t ad0 rR) _ t 0 [(0, .ref v0)] []
  unfold fX2_iterator
  refine gc_new hC (ci := 7) tyX9 tyX9_ok rfl in_X9 dX2_iterator_0 q438 q439 q83 (by decide +kernel) ?_
  refine gc_letS (fun s1 => ?_)
  refine gc_dup hG dX2_iterator_3 rfl ?_
  refine gc_aload_n hG (v := .ref v0) (refV_a _) dX2_iterator_4 rfl rfl ?_
  refine gc_callIN (f := fX9_init (cn t) (some v0) s1) (As := [.ref v0]) (rest := [.ref (cn t)]) (n := 1) (d' := 1) (b := (cn t)) hC hnL (wX9_init (gLn X) Y hl hY (cn t) (some v0) s1) dX2_iterator_5 q440 q441 q83 q442 ⟨by decide +kernel, by decide +kernel⟩ rfl rfl (by decide) (by decide) (Nat.le_of_ble_eq_true rfl) (kn_V (fun r2 s3 => ?_)) kx_V
  exact gc_aret hC hrt (Or.inl ⟨_, rfl⟩) (refV_a _) rfl dX2_iterator_8
def fX9_hasNext (v0 : Nat) (t : cS) : Option (Int32 × cS) :=
  gd (cK t v0 = 8) (
  letv (cR t 48 v0) (fun x1 =>
  onul x1 (
    (some ((nI 0), t))
  ) (fun a2 =>
    (some ((nI 1), t))
  )
  )
  )
theorem mfX9_hasNext (v0 : Nat) (t : cS) : MO t (fX9_hasNext v0 t) := by
  unfold fX9_hasNext
  refine mo_gd ?_
  refine mo_letv (fun _ => ?_)
  refine mo_onul ?_ (fun _ => ?_)
  · exact mo_some
  · exact mo_some
set_option maxHeartbeats 4000000 in
theorem wX9_hasNext (l : Launch) (Y : cY) (hl : l.stackTraces = false) (hY : ∀ q, q < Y.2.2.2.2.size → ¬ Y.2.2.2.1 q) (v0 : Nat) (t : cS) : cFn l Y yX9_hasNext (ws_ yX9_hasNext cX9_hasNext 1 (some .boolean)) 1 [.ref v0] t (fX9_hasNext v0 t) rI := by
  refine cmet (av := [.ref v0]) (mfX9_hasNext v0 t) hl hY (by decide +kernel) (lg_le (List.forall_mem_cons.mpr ⟨rfl, fun _ h => absurd h List.not_mem_nil⟩) (Nat.le_of_ble_eq_true rfl)) (lv_args_cat (List.forall_mem_cons.mpr ⟨rfl, fun _ h => absurd h List.not_mem_nil⟩)) ?_
  intro X ad0 hln hC hnL hrt hnm hT hmd
  subst hln
  have hG := hC.1
  rw [lv_args_s (List.forall_mem_cons.mpr ⟨rfl, fun _ h => absurd h List.not_mem_nil⟩)]
  show GC X Y (cM Y X 1 t ad0 rI) _ t 0 [(0, .ref v0)] []
  unfold fX9_hasNext
  refine gc_aload_n hG (v := .ref v0) (refV_a _) dX9_hasNext_0 rfl rfl ?_
  refine gc_gd (fun hk => ?_)
  refine gc_get hC (ci := 7) (j := 0) (v := vr (cR t 48 v0)) hk dX9_hasNext_1 rfl (by decide) in_X9 q444 (fun _ h => h) rfl ?_
  refine gc_letr (fun x1 h_ => ?_)
  refine gc_ifnull hG (tgt := 11) dX9_hasNext_4 (by decide) (fun h_ => ?_) (fun a2 h_ => ?_)
  · subst h_
    refine gc_iconst hG (nI 0) dX9_hasNext_11 (by decide) ?_
    exact gc_iret hC hrt (by decide) rfl dX9_hasNext_12
  · subst h_
    refine gc_iconst hG (nI 1) dX9_hasNext_7 (by decide) ?_
    refine gc_goto hG (tgt := 12) dX9_hasNext_8 (by decide) ?_
    exact gc_iret hC hrt (by decide) rfl dX9_hasNext_12
def fX9_next (v0 : Nat) (t : cS) : Option (Option Nat × cS) :=
  gd (cK t v0 = 8) (
  letv (cR t 48 v0) (fun x1 =>
  rv x1 (fun a2 =>
  gd (cK t a2 = 7) (
  letv (cR t 45 a2) (fun x3 =>
  gd (cK t v0 = 8) (
  letv (cR t 48 v0) (fun x4 =>
  rv x4 (fun a5 =>
  gd (cK t a5 = 7) (
  letv (cR t 46 a5) (fun x6 =>
  gd (cK t v0 = 8) (
  letv (sR t 48 v0 x6) (fun s7 =>
  (some (x3, s7))
  )
  )
  )
  )
  )
  )
  )
  )
  )
  )
  )
  )
theorem mfX9_next (v0 : Nat) (t : cS) : MO t (fX9_next v0 t) := by
  unfold fX9_next
  refine mo_gd ?_
  refine mo_letv (fun _ => ?_)
  refine mo_rv (fun _ => ?_)
  refine mo_gd ?_
  refine mo_letv (fun _ => ?_)
  refine mo_gd ?_
  refine mo_letv (fun _ => ?_)
  refine mo_rv (fun _ => ?_)
  refine mo_gd ?_
  refine mo_letv (fun _ => ?_)
  refine mo_gd ?_
  refine mo_letS cMo_sR (fun _ => ?_)
  exact mo_some
set_option maxHeartbeats 4000000 in
theorem wX9_next (l : Launch) (Y : cY) (hl : l.stackTraces = false) (hY : ∀ q, q < Y.2.2.2.2.size → ¬ Y.2.2.2.1 q) (v0 : Nat) (t : cS) : cFn l Y yX9_next (ws_ yX9_next cX9_next 2 (some (.object "java/lang/Object"))) 1 [.ref v0] t (fX9_next v0 t) rR := by
  refine cmet (av := [.ref v0]) (mfX9_next v0 t) hl hY (by decide +kernel) (lg_le (List.forall_mem_cons.mpr ⟨rfl, fun _ h => absurd h List.not_mem_nil⟩) (Nat.le_of_ble_eq_true rfl)) (lv_args_cat (List.forall_mem_cons.mpr ⟨rfl, fun _ h => absurd h List.not_mem_nil⟩)) ?_
  intro X ad0 hln hC hnL hrt hnm hT hmd
  subst hln
  have hG := hC.1
  rw [lv_args_s (List.forall_mem_cons.mpr ⟨rfl, fun _ h => absurd h List.not_mem_nil⟩)]
  show GC X Y (cM Y X 2 t ad0 rR) _ t 0 [(0, .ref v0)] []
  unfold fX9_next
  refine gc_aload_n hG (v := .ref v0) (refV_a _) dX9_next_0 rfl rfl ?_
  refine gc_gd (fun hk => ?_)
  refine gc_get hC (ci := 7) (j := 0) (v := vr (cR t 48 v0)) hk dX9_next_1 rfl (by decide) in_X9 q444 (fun _ h => h) rfl ?_
  refine gc_letr (fun x1 h_ => ?_)
  refine gc_rv (fun a2 h_ => ?_)
  subst h_
  refine gc_gd (fun hk => ?_)
  refine gc_getN hC (ci := 6) (j := 0) (v := vr (cR t 45 a2)) hk dX9_next_4 rfl (by decide) in_X8 q405 (fun _ h => h) rfl ?_
  refine gc_letr (fun x3 h_ => ?_)
  refine gc_astore_n hG (refV_x _) dX9_next_7 rfl (Nat.le_of_ble_eq_true rfl) (lv' := [(0, _), (1, _)]) rfl ?_
  refine gc_aload_n hG (v := .ref v0) (refV_a _) dX9_next_8 rfl rfl ?_
  refine gc_aload_n hG (v := .ref v0) (refV_a _) dX9_next_9 rfl rfl ?_
  refine gc_gd (fun hk => ?_)
  refine gc_get hC (ci := 7) (j := 0) (v := vr (cR t 48 v0)) hk dX9_next_10 rfl (by decide) in_X9 q444 (fun _ h => h) rfl ?_
  refine gc_letr (fun x4 h_ => ?_)
  refine gc_rv (fun a5 h_ => ?_)
  subst h_
  refine gc_gd (fun hk => ?_)
  refine gc_getN hC (ci := 6) (j := 1) (v := vr (cR t 46 a5)) hk dX9_next_13 rfl (by decide) in_X8 q408 (fun _ h => h) rfl ?_
  refine gc_letr (fun x6 h_ => ?_)
  refine gc_gd (fun hk => ?_)
  have pt := pt_R (s := t) (f := 48) (a := v0) (x := x6) rfl
  refine gc_put hC tyX9 tyX9_ok nmX9 hk dX9_next_16 (ci := 7) (j := 0) (Or.inl (by decide)) rfl (by decide) in_X9 q444 (fun _ h => h) rfl (tyX9_ok 0 (by decide)) (nar_o x6) (fit_o x6) pt.1.1 pt.1.2.1 pt.1.2.2.1 pt.1.2.2.2 pt.2.1 pt.2.2.1 pt.2.2.2 ?_
  refine gc_letS (fun s7 => ?_)
  refine gc_aload_n hG (v := vr x3) (refV_x _) dX9_next_19 rfl rfl ?_
  exact gc_aret hC hrt (Or.inl ⟨_, rfl⟩) (refV_x _) rfl dX9_next_20
def fX1_timersOf_L10 (v1 : Int32) (v3 : Option Nat) (kx : Int32 → cS → Option (Int32 × cS)) : Nat → Int32 → cS → Option (Int32 × cS)
  | 0, _, _ => none
  | k + 1, v2, t =>
    rv v3 (fun a5 =>
    gd (cK t a5 = 8) (
    ob (fX9_hasNext a5 t) (fun r6 s7 =>
    if r6 = 0 then
      kx v2 s7
    else
      gd (cK s7 a5 = 8) (
      ob (fX9_next a5 s7) (fun r8 s9 =>
      rv r8 (fun a10 =>
      gd (cK s9 a10 = 13) (
      gd (cK s9 a10 = 13) (
      letv (cI s9 59 a10) (fun x11 =>
      jn (fun (x12 : Int32) (t13 : cS) =>
        fX1_timersOf_L10 v1 v3 kx k x12 t13
        ) (fun (j14 : Int32 → cS → Option (Int32 × cS)) =>
        if x11 = v1 then
          letv (v2 + (nI 1)) (fun y15 =>
          j14 y15 s9
          )
        else
          j14 v2 s9
        )
      )
      )
      )
      )
      )
      )
    )
    )
    )
theorem mfX1_timersOf_L10 (v1 : Int32) (v3 : Option Nat) (kx : Int32 → cS → Option (Int32 × cS)) (hkx : ∀ (v2 : Int32) (t : cS), MO t (kx v2 t)) : ∀ (k : Nat) (v2 : Int32) (t : cS), MO t (fX1_timersOf_L10 v1 v3 kx k v2 t) := by
  intro k
  induction k with
  | zero => intro v2 t; exact mo_none
  | succ k ih =>
    intro v2 t
    rw [fX1_timersOf_L10]
    refine mo_rv (fun _ => ?_)
    refine mo_gd ?_
    refine mo_ob (by apply mfX9_hasNext) (fun _ _ => ?_)
    refine mo_ite ?_ ?_
    · exact hkx _ _
    · refine mo_gd ?_
      refine mo_ob (by apply mfX9_next) (fun _ _ => ?_)
      refine mo_rv (fun _ => ?_)
      refine mo_gd ?_
      refine mo_gd ?_
      refine mo_letv (fun _ => ?_)
      refine mo_jn (fun j_ => ∀ ( x12 : Int32 ) ( t13 : cS ), MO t13 (j_ x12 t13)) (fun x12 t13 => ?_) (fun j14 hj14 => ?_)
      · exact ih _ _
      · refine mo_ite ?_ ?_
        · refine mo_letv (fun _ => ?_)
          exact hj14 _ _
        · exact hj14 _ _
set_option maxHeartbeats 4000000 in
theorem gfX1_timersOf_L10 {X : gCx} {Y : cY} {s0 : cS} {ad0 : Nat → Nat} (hC : cOk X Y RX1 cX1_timersOf 3) (hl : (gLn X).stackTraces = false) (hY : ∀ q, q < Y.2.2.2.2.size → ¬ Y.2.2.2.1 q) (hnL : gLoc X = 5) (hrt : gRet X = (some .int)) (hnm : X.2.2.2.2.2.2.2.2.1.name = "timersOf") (hT : gTab X = []) (hmd : (gSt X).methodNamed? yX1_timersOf = some (gMe X)) (v1 : Int32) (v3 : Option Nat) (kx : Int32 → cS → Option (Int32 × cS)) (hkx : ∀ (v2 : Int32) (t : cS), GC X Y (cM Y X 5 s0 ad0 rI) (kx v2 t) t 45 [(2, .int v2)] []) : ∀ (k : Nat) (v2 : Int32) (t : cS), GC X Y (cM Y X 5 s0 ad0 rI) (fX1_timersOf_L10 v1 v3 kx k v2 t) t 10 [(1, .int v1), (2, .int v2), (3, vr v3)] [] := by
  have hG := hC.1
  intro k
  induction k with
  | zero => intro v2 t; exact gc_none
  | succ k ih =>
    intro v2 t
    rw [fX1_timersOf_L10]
    refine gc_aload_n hG (v := vr v3) (refV_x _) dX1_timersOf_10 rfl rfl ?_
    refine gc_rv (fun a5 h_ => ?_)
    subst h_
    refine gc_gd (fun hk => ?_)
    refine gc_callF (f := fX9_hasNext a5 t) (As := []) (rest := []) (n := 0) (d' := 1) (b := a5) (x := ⟨"java/util/Iterator", "hasNext", "()Z"⟩) hC hnL (wX9_hasNext (gLn X) Y hl hY a5 t) hk (ci := 7) rfl dX1_timersOf_11 q452 (by decide +kernel) q458 q456 q83 q460 (by decide +kernel) rfl (by decide) (by decide) (Nat.le_of_ble_eq_true rfl) (kn_I (fun r6 s7 => ?_)) kx_I
    refine gc_if_eq hG (tgt := 45) dX1_timersOf_16 (by decide) ?_ ?_
    · refine gc_sub [1] rfl ?_
      exact hkx v2 s7
    · refine gc_aload_n hG (v := .ref a5) (refV_a _) dX1_timersOf_19 rfl rfl ?_
      refine gc_gd (fun hk => ?_)
      refine gc_callF (f := fX9_next a5 s7) (As := []) (rest := []) (n := 0) (d' := 1) (b := a5) (x := ⟨"java/util/Iterator", "next", "()Ljava/lang/Object;"⟩) hC hnL (wX9_next (gLn X) Y hl hY a5 s7) hk (ci := 7) rfl dX1_timersOf_20 q462 (by decide +kernel) q467 q465 q83 q469 (by decide +kernel) rfl (by decide) (by decide) (Nat.le_of_ble_eq_true rfl) (kn_R (fun r8 s9 => ?_)) kx_R
      refine gc_rv (fun a10 h_ => ?_)
      subst h_
      refine gc_gd (fun hk => ?_)
      refine gc_castE hC hk (ci := 12) rfl q470 dX1_timersOf_25 ?_
      refine gc_astore hG (refV_a _) dX1_timersOf_28 (Nat.le_of_ble_eq_true rfl) (lv' := [(1, _), (2, _), (3, _), (4, _)]) rfl ?_
      refine gc_aload hG (v := .ref a10) (refV_a _) dX1_timersOf_30 rfl ?_
      refine gc_gd (fun hk => ?_)
      refine gc_getN hC (ci := 12) (j := 0) (v := .int (cI s9 59 a10)) hk dX1_timersOf_32 rfl (by decide) in_X15 q898 (fun _ h => h) rfl ?_
      refine gc_letv (fun x11 h_ => ?_)
      refine gc_iload_n hG dX1_timersOf_35 rfl rfl ?_
      refine gc_jn (fun j_ => ∀ (x12 : Int32) (t13 : cS), GC X Y (cM Y X 5 s0 ad0 rI) (j_ x12 t13) t13 42 [(1, .int v1), (2, .int x12), (3, .ref a5)] []) (fun x12 t13 => ?_) (fun j14 hj14 => ?_)
      · refine gc_goto hG (tgt := 10) dX1_timersOf_42 (by decide) ?_
        exact ih x12 t13
      · refine gc_icmp_ne hG (tgt := 42) dX1_timersOf_36 (by decide) ?_ ?_
        · refine gc_letiinc hG (c := (nI 1)) (lv' := fun y15 => [(1, .int v1), (2, .int y15), (3, .ref a5), (4, .ref a10)]) dX1_timersOf_39 rfl (by decide) (Nat.le_of_ble_eq_true rfl) (fun _ => rfl) (fun y15 => ?_)
          refine gc_sub [0, 1, 2] rfl ?_
          exact hj14 y15 s9
        · refine gc_sub [0, 1, 2] rfl ?_
          exact hj14 v2 s9
def fX1_timersOf (v0 : Nat) (v1 : Int32) (t : cS) : Option (Int32 × cS) :=
  gd (cK t v0 = 2) (
  letv (cR t 12 v0) (fun x1 =>
  rv x1 (fun a2 =>
  gd (cK t a2 = 3) (
  ob (fX2_iterator a2 t) (fun r3 s4 =>
  fX1_timersOf_L10 v1 r3 (fun (v2_16 : Int32) (t17 : cS) =>
    (some (v2_16, t17))
    ) FU (nI 0) s4
  )
  )
  )
  )
  )
theorem mfX1_timersOf (v0 : Nat) (v1 : Int32) (t : cS) : MO t (fX1_timersOf v0 v1 t) := by
  unfold fX1_timersOf
  refine mo_gd ?_
  refine mo_letv (fun _ => ?_)
  refine mo_rv (fun _ => ?_)
  refine mo_gd ?_
  refine mo_ob (by apply mfX2_iterator) (fun _ _ => ?_)
  refine mfX1_timersOf_L10 _ _ _ (fun _ _ => ?_) _ _ _
  exact mo_some
set_option maxHeartbeats 4000000 in
theorem wX1_timersOf (l : Launch) (Y : cY) (hl : l.stackTraces = false) (hY : ∀ q, q < Y.2.2.2.2.size → ¬ Y.2.2.2.1 q) (v0 : Nat) (v1 : Int32) (t : cS) : cFn l Y yX1_timersOf (ws_ yX1_timersOf cX1_timersOf 5 (some .int)) 3 [.ref v0, .int v1] t (fX1_timersOf v0 v1 t) rI := by
  refine cmet (av := [.ref v0, .int v1]) (mfX1_timersOf v0 v1 t) hl hY (by decide +kernel) (lg_le (List.forall_mem_cons.mpr ⟨rfl, List.forall_mem_cons.mpr ⟨rfl, fun _ h => absurd h List.not_mem_nil⟩⟩) (Nat.le_of_ble_eq_true rfl)) (lv_args_cat (List.forall_mem_cons.mpr ⟨rfl, List.forall_mem_cons.mpr ⟨rfl, fun _ h => absurd h List.not_mem_nil⟩⟩)) ?_
  intro X ad0 hln hC hnL hrt hnm hT hmd
  subst hln
  have hG := hC.1
  rw [lv_args_s (List.forall_mem_cons.mpr ⟨rfl, List.forall_mem_cons.mpr ⟨rfl, fun _ h => absurd h List.not_mem_nil⟩⟩)]
  show GC X Y (cM Y X 5 t ad0 rI) _ t 0 [(0, .ref v0), (1, .int v1)] []
  unfold fX1_timersOf
  refine gc_iconst hG (nI 0) dX1_timersOf_0 (by decide) ?_
  refine gc_istore_n hG dX1_timersOf_1 rfl (Nat.le_of_ble_eq_true rfl) (lv' := [(0, _), (1, _), (2, _)]) rfl ?_
  refine gc_aload_n hG (v := .ref v0) (refV_a _) dX1_timersOf_2 rfl rfl ?_
  refine gc_gd (fun hk => ?_)
  refine gc_get hC (ci := 1) (j := 6) (v := vr (cR t 12 v0)) hk dX1_timersOf_3 rfl (by decide) in_X1 q174 (fun _ h => h) rfl ?_
  refine gc_letr (fun x1 h_ => ?_)
  refine gc_rv (fun a2 h_ => ?_)
  subst h_
  refine gc_gd (fun hk => ?_)
  refine gc_callV (f := fX2_iterator a2 t) (As := []) (rest := []) (n := 0) (d' := 2) (b := a2) hC hnL (wX2_iterator (gLn X) Y hl hY a2 t) hk (ci := 2) rfl dX1_timersOf_6 q434 q435 q436 q76 q437 ⟨by decide +kernel, by decide +kernel⟩ rfl (by decide) (by decide) (Nat.le_of_ble_eq_true rfl) (kn_R (fun r3 s4 => ?_)) kx_R
  refine gc_astore_n hG (refV_x _) dX1_timersOf_9 rfl (Nat.le_of_ble_eq_true rfl) (lv' := [(0, _), (1, _), (2, _), (3, _)]) rfl ?_
  refine gc_sub [1, 2, 3] rfl ?_
  refine gfX1_timersOf_L10 (s0 := t) (ad0 := ad0) hC hl hY hnL hrt hnm hT hmd v1 r3  _ (fun v2_16 t17 => ?_) FU (nI 0) s4
  refine gc_iload_n hG dX1_timersOf_45 rfl rfl ?_
  exact gc_iret hC hrt rfl rfl dX1_timersOf_46
def fX5_does (v0 : Nat) (t : cS) : Option (Int32 × cS) :=
  gd (cK t v0 = 5) (
  letv (cR t 35 v0) (fun x1 =>
  gd (cK t v0 = 5) (
  letv (cI t 36 v0) (fun x2 =>
  rv x1 (fun a3 =>
  gd (cK t a3 = 20 ∧ cIn t a3 (x2 - (nI 1))) (
  letv (cI t (ei ((x2 - (nI 1))).toNatClampNeg) a3) (fun x4 =>
  (some (x4, t))
  )
  )
  )
  )
  )
  )
  )
theorem mfX5_does (v0 : Nat) (t : cS) : MO t (fX5_does v0 t) := by
  unfold fX5_does
  refine mo_gd ?_
  refine mo_letv (fun _ => ?_)
  refine mo_gd ?_
  refine mo_letv (fun _ => ?_)
  refine mo_rv (fun _ => ?_)
  refine mo_gd ?_
  refine mo_letv (fun _ => ?_)
  exact mo_some
set_option maxHeartbeats 4000000 in
theorem wX5_does (l : Launch) (Y : cY) (hl : l.stackTraces = false) (hY : ∀ q, q < Y.2.2.2.2.size → ¬ Y.2.2.2.1 q) (v0 : Nat) (t : cS) : cFn l Y yX5_does (ws_ yX5_does cX5_does 1 (some .int)) 1 [.ref v0] t (fX5_does v0 t) rI := by
  refine cmet (av := [.ref v0]) (mfX5_does v0 t) hl hY (by decide +kernel) (lg_le (List.forall_mem_cons.mpr ⟨rfl, fun _ h => absurd h List.not_mem_nil⟩) (Nat.le_of_ble_eq_true rfl)) (lv_args_cat (List.forall_mem_cons.mpr ⟨rfl, fun _ h => absurd h List.not_mem_nil⟩)) ?_
  intro X ad0 hln hC hnL hrt hnm hT hmd
  subst hln
  have hG := hC.1
  rw [lv_args_s (List.forall_mem_cons.mpr ⟨rfl, fun _ h => absurd h List.not_mem_nil⟩)]
  show GC X Y (cM Y X 1 t ad0 rI) _ t 0 [(0, .ref v0)] []
  unfold fX5_does
  refine gc_aload_n hG (v := .ref v0) (refV_a _) dX5_does_0 rfl rfl ?_
  refine gc_gd (fun hk => ?_)
  refine gc_get hC (ci := 4) (j := 9) (v := vr (cR t 35 v0)) hk dX5_does_1 rfl (by decide) in_X5 q307 (fun _ h => h) rfl ?_
  refine gc_letr (fun x1 h_ => ?_)
  refine gc_aload_n hG (v := .ref v0) (refV_a _) dX5_does_4 rfl rfl ?_
  refine gc_gd (fun hk => ?_)
  refine gc_get hC (ci := 4) (j := 10) (v := .int (cI t 36 v0)) hk dX5_does_5 rfl (by decide) in_X5 q309 (fun _ h => h) rfl ?_
  refine gc_letv (fun x2 h_ => ?_)
  refine gc_iconst hG (nI 1) dX5_does_8 (by decide) ?_
  refine gc_isub hG dX5_does_9 ?_
  refine gc_rv (fun a3 h_ => ?_)
  subst h_
  refine gc_gd (fun hk => ?_)
  refine gc_iald hC hk.1 hk.2 dX5_does_10 ?_
  refine gc_letv (fun x4 h_ => ?_)
  exact gc_iret hC hrt rfl rfl dX5_does_11
def fJ5_intValue (v0 : Nat) (t : cS) : Option (Int32 × cS) :=
  gd (cK t v0 = 17) (
  letv (cI t 69 v0) (fun x1 =>
  (some (x1, t))
  )
  )
theorem mfJ5_intValue (v0 : Nat) (t : cS) : MO t (fJ5_intValue v0 t) := by
  unfold fJ5_intValue
  refine mo_gd ?_
  refine mo_letv (fun _ => ?_)
  exact mo_some
set_option maxHeartbeats 4000000 in
theorem wJ5_intValue (l : Launch) (Y : cY) (hl : l.stackTraces = false) (hY : ∀ q, q < Y.2.2.2.2.size → ¬ Y.2.2.2.1 q) (v0 : Nat) (t : cS) : cFn l Y yJ5_intValue (ws_ yJ5_intValue cJ5_intValue 1 (some .int)) 1 [.ref v0] t (fJ5_intValue v0 t) rI := by
  refine cmet (av := [.ref v0]) (mfJ5_intValue v0 t) hl hY (by decide +kernel) (lg_le (List.forall_mem_cons.mpr ⟨rfl, fun _ h => absurd h List.not_mem_nil⟩) (Nat.le_of_ble_eq_true rfl)) (lv_args_cat (List.forall_mem_cons.mpr ⟨rfl, fun _ h => absurd h List.not_mem_nil⟩)) ?_
  intro X ad0 hln hC hnL hrt hnm hT hmd
  subst hln
  have hG := hC.1
  rw [lv_args_s (List.forall_mem_cons.mpr ⟨rfl, fun _ h => absurd h List.not_mem_nil⟩)]
  show GC X Y (cM Y X 1 t ad0 rI) _ t 0 [(0, .ref v0)] []
  unfold fJ5_intValue
  refine gc_aload_n hG (v := .ref v0) (refV_a _) dJ5_intValue_0 rfl rfl ?_
  refine gc_gd (fun hk => ?_)
  refine gc_get hC (ci := 16) (j := 0) (v := .int (cI t 69 v0)) hk dJ5_intValue_1 rfl (by decide) in_J5 q952 (fun _ h => h) rfl ?_
  refine gc_letv (fun x1 h_ => ?_)
  exact gc_iret hC hrt rfl rfl dJ5_intValue_4
def fX5_failures_L10 (v0 : Nat) (v1 : Int32) (v3 : Option Nat) (kx : Int32 → cS → Option (Int32 × cS)) : Nat → Int32 → cS → Option (Int32 × cS)
  | 0, _, _ => none
  | k + 1, v2, t =>
    rv v3 (fun a5 =>
    gd (cK t a5 = 8) (
    ob (fX9_hasNext a5 t) (fun r6 s7 =>
    if r6 = 0 then
      kx v2 s7
    else
      gd (cK s7 a5 = 8) (
      ob (fX9_next a5 s7) (fun r8 s9 =>
      rv r8 (fun a10 =>
      gd (cK s9 a10 = 17) (
      gd (cK s9 a10 = 17) (
      ob (fJ5_intValue a10 s9) (fun r11 s12 =>
      gd (cK s12 v0 = 5) (
      letv (cI s12 32 v0) (fun x13 =>
      jn (fun (x14 : Int32) (t15 : cS) =>
        fX5_failures_L10 v0 v1 v3 kx k x14 t15
        ) (fun (j16 : Int32 → cS → Option (Int32 × cS)) =>
        if r11 < (v1 - x13) then
          j16 v2 s12
        else
          letv (v2 + (nI 1)) (fun y17 =>
          j16 y17 s12
          )
        )
      )
      )
      )
      )
      )
      )
      )
      )
    )
    )
    )
theorem mfX5_failures_L10 (v0 : Nat) (v1 : Int32) (v3 : Option Nat) (kx : Int32 → cS → Option (Int32 × cS)) (hkx : ∀ (v2 : Int32) (t : cS), MO t (kx v2 t)) : ∀ (k : Nat) (v2 : Int32) (t : cS), MO t (fX5_failures_L10 v0 v1 v3 kx k v2 t) := by
  intro k
  induction k with
  | zero => intro v2 t; exact mo_none
  | succ k ih =>
    intro v2 t
    rw [fX5_failures_L10]
    refine mo_rv (fun _ => ?_)
    refine mo_gd ?_
    refine mo_ob (by apply mfX9_hasNext) (fun _ _ => ?_)
    refine mo_ite ?_ ?_
    · exact hkx _ _
    · refine mo_gd ?_
      refine mo_ob (by apply mfX9_next) (fun _ _ => ?_)
      refine mo_rv (fun _ => ?_)
      refine mo_gd ?_
      refine mo_gd ?_
      refine mo_ob (by apply mfJ5_intValue) (fun _ _ => ?_)
      refine mo_gd ?_
      refine mo_letv (fun _ => ?_)
      refine mo_jn (fun j_ => ∀ ( x14 : Int32 ) ( t15 : cS ), MO t15 (j_ x14 t15)) (fun x14 t15 => ?_) (fun j16 hj16 => ?_)
      · exact ih _ _
      · refine mo_ite ?_ ?_
        · exact hj16 _ _
        · refine mo_letv (fun _ => ?_)
          exact hj16 _ _
set_option maxHeartbeats 4000000 in
theorem gfX5_failures_L10 {X : gCx} {Y : cY} {s0 : cS} {ad0 : Nat → Nat} (hC : cOk X Y RX5 cX5_failures 3) (hl : (gLn X).stackTraces = false) (hY : ∀ q, q < Y.2.2.2.2.size → ¬ Y.2.2.2.1 q) (hnL : gLoc X = 5) (hrt : gRet X = (some .int)) (hnm : X.2.2.2.2.2.2.2.2.1.name = "failures") (hT : gTab X = []) (hmd : (gSt X).methodNamed? yX5_failures = some (gMe X)) (v0 : Nat) (v1 : Int32) (v3 : Option Nat) (kx : Int32 → cS → Option (Int32 × cS)) (hkx : ∀ (v2 : Int32) (t : cS), GC X Y (cM Y X 5 s0 ad0 rI) (kx v2 t) t 50 [(2, .int v2)] []) : ∀ (k : Nat) (v2 : Int32) (t : cS), GC X Y (cM Y X 5 s0 ad0 rI) (fX5_failures_L10 v0 v1 v3 kx k v2 t) t 10 [(0, .ref v0), (1, .int v1), (2, .int v2), (3, vr v3)] [] := by
  have hG := hC.1
  intro k
  induction k with
  | zero => intro v2 t; exact gc_none
  | succ k ih =>
    intro v2 t
    rw [fX5_failures_L10]
    refine gc_aload_n hG (v := vr v3) (refV_x _) dX5_failures_10 rfl rfl ?_
    refine gc_rv (fun a5 h_ => ?_)
    subst h_
    refine gc_gd (fun hk => ?_)
    refine gc_callF (f := fX9_hasNext a5 t) (As := []) (rest := []) (n := 0) (d' := 1) (b := a5) (x := ⟨"java/util/Iterator", "hasNext", "()Z"⟩) hC hnL (wX9_hasNext (gLn X) Y hl hY a5 t) hk (ci := 7) rfl dX5_failures_11 q477 (by decide +kernel) q458 q456 q83 q460 (by decide +kernel) rfl (by decide) (by decide) (Nat.le_of_ble_eq_true rfl) (kn_I (fun r6 s7 => ?_)) kx_I
    refine gc_if_eq hG (tgt := 50) dX5_failures_16 (by decide) ?_ ?_
    · refine gc_sub [2] rfl ?_
      exact hkx v2 s7
    · refine gc_aload_n hG (v := .ref a5) (refV_a _) dX5_failures_19 rfl rfl ?_
      refine gc_gd (fun hk => ?_)
      refine gc_callF (f := fX9_next a5 s7) (As := []) (rest := []) (n := 0) (d' := 1) (b := a5) (x := ⟨"java/util/Iterator", "next", "()Ljava/lang/Object;"⟩) hC hnL (wX9_next (gLn X) Y hl hY a5 s7) hk (ci := 7) rfl dX5_failures_20 q479 (by decide +kernel) q467 q465 q83 q469 (by decide +kernel) rfl (by decide) (by decide) (Nat.le_of_ble_eq_true rfl) (kn_R (fun r8 s9 => ?_)) kx_R
      refine gc_rv (fun a10 h_ => ?_)
      subst h_
      refine gc_gd (fun hk => ?_)
      refine gc_castE hC hk (ci := 16) rfl q480 dX5_failures_25 ?_
      refine gc_gd (fun hk => ?_)
      refine gc_callV (f := fJ5_intValue a10 s9) (As := []) (rest := []) (n := 0) (d' := 1) (b := a10) hC hnL (wJ5_intValue (gLn X) Y hl hY a10 s9) hk (ci := 16) rfl dX5_failures_28 q275 q276 q277 q89 q278 ⟨by decide +kernel, by decide +kernel⟩ rfl (by decide) (by decide) (Nat.le_of_ble_eq_true rfl) (kn_I (fun r11 s12 => ?_)) kx_I
      refine gc_istore hG dX5_failures_31 (Nat.le_of_ble_eq_true rfl) (lv' := [(0, _), (1, _), (2, _), (3, _), (4, _)]) rfl ?_
      refine gc_iload hG dX5_failures_33 rfl ?_
      refine gc_iload_n hG dX5_failures_35 rfl rfl ?_
      refine gc_aload_n hG (v := .ref v0) (refV_a _) dX5_failures_36 rfl rfl ?_
      refine gc_gd (fun hk => ?_)
      refine gc_get hC (ci := 4) (j := 6) (v := .int (cI s12 32 v0)) hk dX5_failures_37 rfl (by decide) in_X5 q297 (fun _ h => h) rfl ?_
      refine gc_letv (fun x13 h_ => ?_)
      refine gc_isub hG dX5_failures_40 ?_
      refine gc_jn (fun j_ => ∀ (x14 : Int32) (t15 : cS), GC X Y (cM Y X 5 s0 ad0 rI) (j_ x14 t15) t15 47 [(0, .ref v0), (1, .int v1), (2, .int x14), (3, .ref a5)] []) (fun x14 t15 => ?_) (fun j16 hj16 => ?_)
      · refine gc_goto hG (tgt := 10) dX5_failures_47 (by decide) ?_
        exact ih x14 t15
      · refine gc_icmp_lt hG (tgt := 47) dX5_failures_41 (by decide) ?_ ?_
        · refine gc_sub [0, 1, 2, 3] rfl ?_
          exact hj16 v2 s12
        · refine gc_letiinc hG (c := (nI 1)) (lv' := fun y17 => [(0, .ref v0), (1, .int v1), (2, .int y17), (3, .ref a5), (4, .int r11)]) dX5_failures_44 rfl (by decide) (Nat.le_of_ble_eq_true rfl) (fun _ => rfl) (fun y17 => ?_)
          refine gc_sub [0, 1, 2, 3] rfl ?_
          exact hj16 y17 s12
def fX5_failures (v0 : Nat) (v1 : Int32) (t : cS) : Option (Int32 × cS) :=
  gd (cK t v0 = 5) (
  letv (cR t 40 v0) (fun x1 =>
  rv x1 (fun a2 =>
  gd (cK t a2 = 3) (
  ob (fX2_iterator a2 t) (fun r3 s4 =>
  fX5_failures_L10 v0 v1 r3 (fun (v2_18 : Int32) (t19 : cS) =>
    (some (v2_18, t19))
    ) FU (nI 0) s4
  )
  )
  )
  )
  )
theorem mfX5_failures (v0 : Nat) (v1 : Int32) (t : cS) : MO t (fX5_failures v0 v1 t) := by
  unfold fX5_failures
  refine mo_gd ?_
  refine mo_letv (fun _ => ?_)
  refine mo_rv (fun _ => ?_)
  refine mo_gd ?_
  refine mo_ob (by apply mfX2_iterator) (fun _ _ => ?_)
  refine mfX5_failures_L10 _ _ _ _ (fun _ _ => ?_) _ _ _
  exact mo_some
set_option maxHeartbeats 4000000 in
theorem wX5_failures (l : Launch) (Y : cY) (hl : l.stackTraces = false) (hY : ∀ q, q < Y.2.2.2.2.size → ¬ Y.2.2.2.1 q) (v0 : Nat) (v1 : Int32) (t : cS) : cFn l Y yX5_failures (ws_ yX5_failures cX5_failures 5 (some .int)) 3 [.ref v0, .int v1] t (fX5_failures v0 v1 t) rI := by
  refine cmet (av := [.ref v0, .int v1]) (mfX5_failures v0 v1 t) hl hY (by decide +kernel) (lg_le (List.forall_mem_cons.mpr ⟨rfl, List.forall_mem_cons.mpr ⟨rfl, fun _ h => absurd h List.not_mem_nil⟩⟩) (Nat.le_of_ble_eq_true rfl)) (lv_args_cat (List.forall_mem_cons.mpr ⟨rfl, List.forall_mem_cons.mpr ⟨rfl, fun _ h => absurd h List.not_mem_nil⟩⟩)) ?_
  intro X ad0 hln hC hnL hrt hnm hT hmd
  subst hln
  have hG := hC.1
  rw [lv_args_s (List.forall_mem_cons.mpr ⟨rfl, List.forall_mem_cons.mpr ⟨rfl, fun _ h => absurd h List.not_mem_nil⟩⟩)]
  show GC X Y (cM Y X 5 t ad0 rI) _ t 0 [(0, .ref v0), (1, .int v1)] []
  unfold fX5_failures
  refine gc_iconst hG (nI 0) dX5_failures_0 (by decide) ?_
  refine gc_istore_n hG dX5_failures_1 rfl (Nat.le_of_ble_eq_true rfl) (lv' := [(0, _), (1, _), (2, _)]) rfl ?_
  refine gc_aload_n hG (v := .ref v0) (refV_a _) dX5_failures_2 rfl rfl ?_
  refine gc_gd (fun hk => ?_)
  refine gc_get hC (ci := 4) (j := 14) (v := vr (cR t 40 v0)) hk dX5_failures_3 rfl (by decide) in_X5 q322 (fun _ h => h) rfl ?_
  refine gc_letr (fun x1 h_ => ?_)
  refine gc_rv (fun a2 h_ => ?_)
  subst h_
  refine gc_gd (fun hk => ?_)
  refine gc_callV (f := fX2_iterator a2 t) (As := []) (rest := []) (n := 0) (d' := 2) (b := a2) hC hnL (wX2_iterator (gLn X) Y hl hY a2 t) hk (ci := 2) rfl dX5_failures_6 q475 q435 q436 q76 q437 ⟨by decide +kernel, by decide +kernel⟩ rfl (by decide) (by decide) (Nat.le_of_ble_eq_true rfl) (kn_R (fun r3 s4 => ?_)) kx_R
  refine gc_astore_n hG (refV_x _) dX5_failures_9 rfl (Nat.le_of_ble_eq_true rfl) (lv' := [(0, _), (1, _), (2, _), (3, _)]) rfl ?_
  refine gfX5_failures_L10 (s0 := t) (ad0 := ad0) hC hl hY hnL hrt hnm hT hmd v0 v1 r3  _ (fun v2_18 t19 => ?_) FU (nI 0) s4
  refine gc_iload_n hG dX5_failures_50 rfl rfl ?_
  exact gc_iret hC hrt rfl rfl dX5_failures_51
def fX0_of (v0 : Nat) (v1 : Int32) (v2 : Int32) (t : cS) : Option (Int32 × cS) :=
  gd (cK t v0 = 1) (
  ob (fX0_isActor v0 v1 t) (fun r1 s2 =>
  if r1 = 0 then
    (some ((-1 : Int32), s2))
  else
    gd (cK s2 v0 = 1) (
    letv (cR s2 1 v0) (fun x3 =>
    rv x3 (fun a4 =>
    gd (cK s2 a4 = 2) (
    letv (cR s2 6 a4) (fun x5 =>
    rv x5 (fun a6 =>
    gd (cK s2 a6 = 23 ∧ cIn s2 a6 v1) (
    letv (cR s2 (er (v1).toNatClampNeg) a6) (fun x7 =>
    gsw v2 [
      ((nI 0), 
        rv x7 (fun a8 =>
        gd (cK s2 a8 = 5) (
        letv (cI s2 27 a8) (fun x9 =>
        if x9 < 0 then
          (some ((-2 : Int32), s2))
        else
          gd (cK s2 a8 = 5) (
          letv (cI s2 27 a8) (fun x10 =>
          (some (x10, s2))
          )
          )
        )
        )
        )
      ),
      ((nI 1), 
        rv x7 (fun a11 =>
        gd (cK s2 a11 = 5) (
        letv (cI s2 28 a11) (fun x12 =>
        (some (x12, s2))
        )
        )
        )
      ),
      ((nI 2), 
        rv x7 (fun a13 =>
        gd (cK s2 a13 = 5) (
        letv (cI s2 29 a13) (fun x14 =>
        (some (x14, s2))
        )
        )
        )
      ),
      ((nI 3), 
        rv x7 (fun a15 =>
        gd (cK s2 a15 = 5) (
        letv (cI s2 31 a15) (fun x16 =>
        (some (x16, s2))
        )
        )
        )
      ),
      ((nI 4), 
        rv x7 (fun a17 =>
        gd (cK s2 a17 = 5) (
        letv (cI s2 32 a17) (fun x18 =>
        (some (x18, s2))
        )
        )
        )
      ),
      ((nI 5), 
        rv x7 (fun a19 =>
        gd (cK s2 a19 = 5) (
        letv (cI s2 33 a19) (fun x20 =>
        if x20 = 0 then
          (some ((nI 0), s2))
        else
          (some ((nI 1), s2))
        )
        )
        )
      ),
      ((nI 6), 
        rv x7 (fun a21 =>
        gd (cK s2 a21 = 5) (
        ob (fX5_does a21 s2) (fun r22 s23 =>
        (some (r22, s23))
        )
        )
        )
      ),
      ((nI 7), 
        rv x7 (fun a24 =>
        gd (cK s2 a24 = 5) (
        letv (cI s2 36 a24) (fun x25 =>
        (some (x25, s2))
        )
        )
        )
      ),
      ((nI 8), 
        rv x7 (fun a26 =>
        gd (cK s2 a26 = 5) (
        letv (cR s2 37 a26) (fun x27 =>
        rv x27 (fun a28 =>
        gd (cK s2 a28 = 3) (
        letv (cI s2 24 a28) (fun x29 =>
        (some (x29, s2))
        )
        )
        )
        )
        )
        )
      ),
      ((nI 9), 
        rv x7 (fun a30 =>
        gd (cK s2 a30 = 5) (
        letv (cR s2 38 a30) (fun x31 =>
        rv x31 (fun a32 =>
        gd (cK s2 a32 = 3) (
        letv (cI s2 24 a32) (fun x33 =>
        (some (x33, s2))
        )
        )
        )
        )
        )
        )
      ),
      ((nI 10), 
        rv x7 (fun a34 =>
        gd (cK s2 a34 = 5) (
        letv (cR s2 39 a34) (fun x35 =>
        rv x35 (fun a36 =>
        gd (cK s2 a36 = 3) (
        letv (cI s2 24 a36) (fun x37 =>
        (some (x37, s2))
        )
        )
        )
        )
        )
        )
      ),
      ((nI 11), 
        gd (cK s2 v0 = 1) (
        letv (cR s2 1 v0) (fun x38 =>
        rv x38 (fun a39 =>
        gd (cK s2 a39 = 2) (
        ob (fX1_timersOf a39 v1 s2) (fun r40 s41 =>
        (some (r40, s41))
        )
        )
        )
        )
        )
      ),
      ((nI 12), 
        gd (cK s2 v0 = 1) (
        letv (cR s2 1 v0) (fun x42 =>
        rv x42 (fun a43 =>
        gd (cK s2 a43 = 2) (
        letv (cI s2 10 a43) (fun x44 =>
        rv x7 (fun a45 =>
        gd (cK s2 a45 = 5) (
        ob (fX5_failures a45 x44 s2) (fun r46 s47 =>
        (some (r46, s47))
        )
        )
        )
        )
        )
        )
        )
        )
      ),
      ((nI 13), 
        gd (cK s2 v0 = 1) (
        letv (cR s2 1 v0) (fun x48 =>
        rv x48 (fun a49 =>
        gd (cK s2 a49 = 2) (
        ob (fX1_childrenOf a49 v1 s2) (fun r50 s51 =>
        (some (r50, s51))
        )
        )
        )
        )
        )
      )
    ] (
      (some ((-1 : Int32), s2))
    )
    )
    )
    )
    )
    )
    )
    )
    )
  )
  )
theorem mfX0_of (v0 : Nat) (v1 : Int32) (v2 : Int32) (t : cS) : MO t (fX0_of v0 v1 v2 t) := by
  unfold fX0_of
  refine mo_gd ?_
  refine mo_ob (by apply mfX0_isActor) (fun _ _ => ?_)
  refine mo_ite ?_ ?_
  · exact mo_some
  · refine mo_gd ?_
    refine mo_letv (fun _ => ?_)
    refine mo_rv (fun _ => ?_)
    refine mo_gd ?_
    refine mo_letv (fun _ => ?_)
    refine mo_rv (fun _ => ?_)
    refine mo_gd ?_
    refine mo_letv (fun _ => ?_)
    refine mo_sw (List.forall_mem_cons.mpr ⟨?_, List.forall_mem_cons.mpr ⟨?_, List.forall_mem_cons.mpr ⟨?_, List.forall_mem_cons.mpr ⟨?_, List.forall_mem_cons.mpr ⟨?_, List.forall_mem_cons.mpr ⟨?_, List.forall_mem_cons.mpr ⟨?_, List.forall_mem_cons.mpr ⟨?_, List.forall_mem_cons.mpr ⟨?_, List.forall_mem_cons.mpr ⟨?_, List.forall_mem_cons.mpr ⟨?_, List.forall_mem_cons.mpr ⟨?_, List.forall_mem_cons.mpr ⟨?_, List.forall_mem_cons.mpr ⟨?_, fun _ h => absurd h List.not_mem_nil⟩⟩⟩⟩⟩⟩⟩⟩⟩⟩⟩⟩⟩⟩) ?_
    · dsimp only
      refine mo_rv (fun _ => ?_)
      refine mo_gd ?_
      refine mo_letv (fun _ => ?_)
      refine mo_ite ?_ ?_
      · exact mo_some
      · refine mo_gd ?_
        refine mo_letv (fun _ => ?_)
        exact mo_some
    · dsimp only
      refine mo_rv (fun _ => ?_)
      refine mo_gd ?_
      refine mo_letv (fun _ => ?_)
      exact mo_some
    · dsimp only
      refine mo_rv (fun _ => ?_)
      refine mo_gd ?_
      refine mo_letv (fun _ => ?_)
      exact mo_some
    · dsimp only
      refine mo_rv (fun _ => ?_)
      refine mo_gd ?_
      refine mo_letv (fun _ => ?_)
      exact mo_some
    · dsimp only
      refine mo_rv (fun _ => ?_)
      refine mo_gd ?_
      refine mo_letv (fun _ => ?_)
      exact mo_some
    · dsimp only
      refine mo_rv (fun _ => ?_)
      refine mo_gd ?_
      refine mo_letv (fun _ => ?_)
      refine mo_ite ?_ ?_
      · exact mo_some
      · exact mo_some
    · dsimp only
      refine mo_rv (fun _ => ?_)
      refine mo_gd ?_
      refine mo_ob (by apply mfX5_does) (fun _ _ => ?_)
      exact mo_some
    · dsimp only
      refine mo_rv (fun _ => ?_)
      refine mo_gd ?_
      refine mo_letv (fun _ => ?_)
      exact mo_some
    · dsimp only
      refine mo_rv (fun _ => ?_)
      refine mo_gd ?_
      refine mo_letv (fun _ => ?_)
      refine mo_rv (fun _ => ?_)
      refine mo_gd ?_
      refine mo_letv (fun _ => ?_)
      exact mo_some
    · dsimp only
      refine mo_rv (fun _ => ?_)
      refine mo_gd ?_
      refine mo_letv (fun _ => ?_)
      refine mo_rv (fun _ => ?_)
      refine mo_gd ?_
      refine mo_letv (fun _ => ?_)
      exact mo_some
    · dsimp only
      refine mo_rv (fun _ => ?_)
      refine mo_gd ?_
      refine mo_letv (fun _ => ?_)
      refine mo_rv (fun _ => ?_)
      refine mo_gd ?_
      refine mo_letv (fun _ => ?_)
      exact mo_some
    · dsimp only
      refine mo_gd ?_
      refine mo_letv (fun _ => ?_)
      refine mo_rv (fun _ => ?_)
      refine mo_gd ?_
      refine mo_ob (by apply mfX1_timersOf) (fun _ _ => ?_)
      exact mo_some
    · dsimp only
      refine mo_gd ?_
      refine mo_letv (fun _ => ?_)
      refine mo_rv (fun _ => ?_)
      refine mo_gd ?_
      refine mo_letv (fun _ => ?_)
      refine mo_rv (fun _ => ?_)
      refine mo_gd ?_
      refine mo_ob (by apply mfX5_failures) (fun _ _ => ?_)
      exact mo_some
    · dsimp only
      refine mo_gd ?_
      refine mo_letv (fun _ => ?_)
      refine mo_rv (fun _ => ?_)
      refine mo_gd ?_
      refine mo_ob (by apply mfX1_childrenOf) (fun _ _ => ?_)
      exact mo_some
    · exact mo_some
set_option maxHeartbeats 4000000 in
theorem wX0_of (l : Launch) (Y : cY) (hl : l.stackTraces = false) (hY : ∀ q, q < Y.2.2.2.2.size → ¬ Y.2.2.2.1 q) (v0 : Nat) (v1 : Int32) (v2 : Int32) (t : cS) : cFn l Y yX0_of (ws_ yX0_of cX0_of 4 (some .int)) 4 [.ref v0, .int v1, .int v2] t (fX0_of v0 v1 v2 t) rI := by
  refine cmet (av := [.ref v0, .int v1, .int v2]) (mfX0_of v0 v1 v2 t) hl hY (by decide +kernel) (lg_le (List.forall_mem_cons.mpr ⟨rfl, List.forall_mem_cons.mpr ⟨rfl, List.forall_mem_cons.mpr ⟨rfl, fun _ h => absurd h List.not_mem_nil⟩⟩⟩) (Nat.le_of_ble_eq_true rfl)) (lv_args_cat (List.forall_mem_cons.mpr ⟨rfl, List.forall_mem_cons.mpr ⟨rfl, List.forall_mem_cons.mpr ⟨rfl, fun _ h => absurd h List.not_mem_nil⟩⟩⟩)) ?_
  intro X ad0 hln hC hnL hrt hnm hT hmd
  subst hln
  have hG := hC.1
  rw [lv_args_s (List.forall_mem_cons.mpr ⟨rfl, List.forall_mem_cons.mpr ⟨rfl, List.forall_mem_cons.mpr ⟨rfl, fun _ h => absurd h List.not_mem_nil⟩⟩⟩)]
  show GC X Y (cM Y X 4 t ad0 rI) _ t 0 [(0, .ref v0), (1, .int v1), (2, .int v2)] []
  unfold fX0_of
  refine gc_aload_n hG (v := .ref v0) (refV_a _) dX0_of_0 rfl rfl ?_
  refine gc_iload_n hG dX0_of_1 rfl rfl ?_
  refine gc_gd (fun hk => ?_)
  refine gc_callV (f := fX0_isActor v0 v1 t) (As := [.int v1]) (rest := []) (n := 1) (d' := 1) (b := v0) hC hnL (wX0_isActor (gLn X) Y hl hY v0 v1 t) hk (ci := 0) rfl dX0_of_2 q366 q368 qs0 q74 q369 ⟨by decide +kernel, by decide +kernel⟩ rfl (by decide) (by decide) (Nat.le_of_ble_eq_true rfl) (kn_I (fun r1 s2 => ?_)) kx_I
  refine gc_if_ne hG (tgt := 10) dX0_of_5 (by decide) ?_ ?_
  · refine gc_iconst hG (-1 : Int32) dX0_of_8 (by decide) ?_
    exact gc_iret hC hrt rfl rfl dX0_of_9
  · refine gc_aload_n hG (v := .ref v0) (refV_a _) dX0_of_10 rfl rfl ?_
    refine gc_gd (fun hk => ?_)
    refine gc_get hC (ci := 0) (j := 0) (v := vr (cR s2 1 v0)) hk dX0_of_11 rfl (by decide) in_X0 q224 (fun _ h => h) rfl ?_
    refine gc_letr (fun x3 h_ => ?_)
    refine gc_rv (fun a4 h_ => ?_)
    subst h_
    refine gc_gd (fun hk => ?_)
    refine gc_getN hC (ci := 1) (j := 0) (v := vr (cR s2 6 a4)) hk dX0_of_14 rfl (by decide) in_X1 q160 (fun _ h => h) rfl ?_
    refine gc_letr (fun x5 h_ => ?_)
    refine gc_iload_n hG dX0_of_17 rfl rfl ?_
    refine gc_rv (fun a6 h_ => ?_)
    subst h_
    refine gc_gd (fun hk => ?_)
    refine gc_aald hC hk.1 (by decide) (by decide) (t0 := 3) rfl hk.2 dX0_of_18 ?_
    refine gc_letr (fun x7 h_ => ?_)
    refine gc_astore_n hG (refV_x _) dX0_of_19 rfl (Nat.le_of_ble_eq_true rfl) (lv' := [(0, _), (1, _), (2, _), (3, _)]) rfl ?_
    refine gc_iload_n hG dX0_of_20 rfl rfl ?_
    refine gc_tsw hG (dt := 206) dX0_of_21 (by decide) (by decide) ⟨⟨by decide, 92, by decide, ?_⟩, ⟨by decide, 109, by decide, ?_⟩, ⟨by decide, 114, by decide, ?_⟩, ⟨by decide, 119, by decide, ?_⟩, ⟨by decide, 124, by decide, ?_⟩, ⟨by decide, 129, by decide, ?_⟩, ⟨by decide, 142, by decide, ?_⟩, ⟨by decide, 147, by decide, ?_⟩, ⟨by decide, 152, by decide, ?_⟩, ⟨by decide, 160, by decide, ?_⟩, ⟨by decide, 168, by decide, ?_⟩, ⟨by decide, 176, by decide, ?_⟩, ⟨by decide, 185, by decide, ?_⟩, ⟨by decide, 197, by decide, ?_⟩, trivial⟩ ?_
    · refine gc_aload_n hG (v := vr x7) (refV_x _) dX0_of_92 rfl rfl ?_
      refine gc_rv (fun a8 h_ => ?_)
      subst h_
      refine gc_gd (fun hk => ?_)
      refine gc_getN hC (ci := 4) (j := 1) (v := .int (cI s2 27 a8)) hk dX0_of_93 rfl (by decide) in_X5 q286 (fun _ h => h) rfl ?_
      refine gc_letv (fun x9 h_ => ?_)
      refine gc_if_ge hG (tgt := 104) dX0_of_96 (by decide) ?_ ?_
      · refine gc_bipush hG (-2 : Int32) dX0_of_99 (by decide) ?_
        refine gc_goto hG (tgt := 108) dX0_of_101 (by decide) ?_
        exact gc_iret hC hrt rfl rfl dX0_of_108
      · refine gc_aload_n hG (v := .ref a8) (refV_a _) dX0_of_104 rfl rfl ?_
        refine gc_gd (fun hk => ?_)
        refine gc_getN hC (ci := 4) (j := 1) (v := .int (cI s2 27 a8)) hk dX0_of_105 rfl (by decide) in_X5 q286 (fun _ h => h) rfl ?_
        refine gc_letv (fun x10 h_ => ?_)
        exact gc_iret hC hrt rfl rfl dX0_of_108
    · refine gc_aload_n hG (v := vr x7) (refV_x _) dX0_of_109 rfl rfl ?_
      refine gc_rv (fun a11 h_ => ?_)
      subst h_
      refine gc_gd (fun hk => ?_)
      refine gc_getN hC (ci := 4) (j := 2) (v := .int (cI s2 28 a11)) hk dX0_of_110 rfl (by decide) in_X5 q289 (fun _ h => h) rfl ?_
      refine gc_letv (fun x12 h_ => ?_)
      exact gc_iret hC hrt rfl rfl dX0_of_113
    · refine gc_aload_n hG (v := vr x7) (refV_x _) dX0_of_114 rfl rfl ?_
      refine gc_rv (fun a13 h_ => ?_)
      subst h_
      refine gc_gd (fun hk => ?_)
      refine gc_getN hC (ci := 4) (j := 3) (v := .int (cI s2 29 a13)) hk dX0_of_115 rfl (by decide) in_X5 q291 (fun _ h => h) rfl ?_
      refine gc_letv (fun x14 h_ => ?_)
      exact gc_iret hC hrt rfl rfl dX0_of_118
    · refine gc_aload_n hG (v := vr x7) (refV_x _) dX0_of_119 rfl rfl ?_
      refine gc_rv (fun a15 h_ => ?_)
      subst h_
      refine gc_gd (fun hk => ?_)
      refine gc_getN hC (ci := 4) (j := 5) (v := .int (cI s2 31 a15)) hk dX0_of_120 rfl (by decide) in_X5 q295 (fun _ h => h) rfl ?_
      refine gc_letv (fun x16 h_ => ?_)
      exact gc_iret hC hrt rfl rfl dX0_of_123
    · refine gc_aload_n hG (v := vr x7) (refV_x _) dX0_of_124 rfl rfl ?_
      refine gc_rv (fun a17 h_ => ?_)
      subst h_
      refine gc_gd (fun hk => ?_)
      refine gc_getN hC (ci := 4) (j := 6) (v := .int (cI s2 32 a17)) hk dX0_of_125 rfl (by decide) in_X5 q298 (fun _ h => h) rfl ?_
      refine gc_letv (fun x18 h_ => ?_)
      exact gc_iret hC hrt rfl rfl dX0_of_128
    · refine gc_aload_n hG (v := vr x7) (refV_x _) dX0_of_129 rfl rfl ?_
      refine gc_rv (fun a19 h_ => ?_)
      subst h_
      refine gc_gd (fun hk => ?_)
      refine gc_getN hC (ci := 4) (j := 7) (v := .int (cI s2 33 a19)) hk dX0_of_130 rfl (by decide) in_X5 q302 (fun _ h => h) rfl ?_
      refine gc_letv (fun x20 h_ => ?_)
      refine gc_if_eq hG (tgt := 140) dX0_of_133 (by decide) ?_ ?_
      · refine gc_iconst hG (nI 0) dX0_of_140 (by decide) ?_
        exact gc_iret hC hrt rfl rfl dX0_of_141
      · refine gc_iconst hG (nI 1) dX0_of_136 (by decide) ?_
        refine gc_goto hG (tgt := 141) dX0_of_137 (by decide) ?_
        exact gc_iret hC hrt rfl rfl dX0_of_141
    · refine gc_aload_n hG (v := vr x7) (refV_x _) dX0_of_142 rfl rfl ?_
      refine gc_rv (fun a21 h_ => ?_)
      subst h_
      refine gc_gd (fun hk => ?_)
      refine gc_callV (f := fX5_does a21 s2) (As := []) (rest := []) (n := 0) (d' := 1) (b := a21) hC hnL (wX5_does (gLn X) Y hl hY a21 s2) hk (ci := 4) rfl dX0_of_143 q426 q427 q428 q79 q429 ⟨by decide +kernel, by decide +kernel⟩ rfl (by decide) (by decide) (Nat.le_of_ble_eq_true rfl) (kn_I (fun r22 s23 => ?_)) kx_I
      exact gc_iret hC hrt rfl rfl dX0_of_146
    · refine gc_aload_n hG (v := vr x7) (refV_x _) dX0_of_147 rfl rfl ?_
      refine gc_rv (fun a24 h_ => ?_)
      subst h_
      refine gc_gd (fun hk => ?_)
      refine gc_getN hC (ci := 4) (j := 10) (v := .int (cI s2 36 a24)) hk dX0_of_148 rfl (by decide) in_X5 q310 (fun _ h => h) rfl ?_
      refine gc_letv (fun x25 h_ => ?_)
      exact gc_iret hC hrt rfl rfl dX0_of_151
    · refine gc_aload_n hG (v := vr x7) (refV_x _) dX0_of_152 rfl rfl ?_
      refine gc_rv (fun a26 h_ => ?_)
      subst h_
      refine gc_gd (fun hk => ?_)
      refine gc_getN hC (ci := 4) (j := 11) (v := vr (cR s2 37 a26)) hk dX0_of_153 rfl (by decide) in_X5 q314 (fun _ h => h) rfl ?_
      refine gc_letr (fun x27 h_ => ?_)
      refine gc_rv (fun a28 h_ => ?_)
      subst h_
      refine gc_gd (fun hk => ?_)
      refine gc_getN hC (ci := 2) (j := 3) (v := .int (cI s2 24 a28)) hk dX0_of_156 rfl (by decide) in_X2 q137 (fun _ h => h) rfl ?_
      refine gc_letv (fun x29 h_ => ?_)
      exact gc_iret hC hrt rfl rfl dX0_of_159
    · refine gc_aload_n hG (v := vr x7) (refV_x _) dX0_of_160 rfl rfl ?_
      refine gc_rv (fun a30 h_ => ?_)
      subst h_
      refine gc_gd (fun hk => ?_)
      refine gc_getN hC (ci := 4) (j := 12) (v := vr (cR s2 38 a30)) hk dX0_of_161 rfl (by decide) in_X5 q317 (fun _ h => h) rfl ?_
      refine gc_letr (fun x31 h_ => ?_)
      refine gc_rv (fun a32 h_ => ?_)
      subst h_
      refine gc_gd (fun hk => ?_)
      refine gc_getN hC (ci := 2) (j := 3) (v := .int (cI s2 24 a32)) hk dX0_of_164 rfl (by decide) in_X2 q137 (fun _ h => h) rfl ?_
      refine gc_letv (fun x33 h_ => ?_)
      exact gc_iret hC hrt rfl rfl dX0_of_167
    · refine gc_aload_n hG (v := vr x7) (refV_x _) dX0_of_168 rfl rfl ?_
      refine gc_rv (fun a34 h_ => ?_)
      subst h_
      refine gc_gd (fun hk => ?_)
      refine gc_getN hC (ci := 4) (j := 13) (v := vr (cR s2 39 a34)) hk dX0_of_169 rfl (by decide) in_X5 q319 (fun _ h => h) rfl ?_
      refine gc_letr (fun x35 h_ => ?_)
      refine gc_rv (fun a36 h_ => ?_)
      subst h_
      refine gc_gd (fun hk => ?_)
      refine gc_getN hC (ci := 2) (j := 3) (v := .int (cI s2 24 a36)) hk dX0_of_172 rfl (by decide) in_X2 q137 (fun _ h => h) rfl ?_
      refine gc_letv (fun x37 h_ => ?_)
      exact gc_iret hC hrt rfl rfl dX0_of_175
    · refine gc_aload_n hG (v := .ref v0) (refV_a _) dX0_of_176 rfl rfl ?_
      refine gc_gd (fun hk => ?_)
      refine gc_get hC (ci := 0) (j := 0) (v := vr (cR s2 1 v0)) hk dX0_of_177 rfl (by decide) in_X0 q224 (fun _ h => h) rfl ?_
      refine gc_letr (fun x38 h_ => ?_)
      refine gc_iload_n hG dX0_of_180 rfl rfl ?_
      refine gc_rv (fun a39 h_ => ?_)
      subst h_
      refine gc_gd (fun hk => ?_)
      refine gc_callV (f := fX1_timersOf a39 v1 s2) (As := [.int v1]) (rest := []) (n := 1) (d' := 3) (b := a39) hC hnL (wX1_timersOf (gLn X) Y hl hY a39 v1 s2) hk (ci := 1) rfl dX0_of_181 q430 q431 q432 q75 q433 ⟨by decide +kernel, by decide +kernel⟩ rfl (by decide) (by decide) (Nat.le_of_ble_eq_true rfl) (kn_I (fun r40 s41 => ?_)) kx_I
      exact gc_iret hC hrt rfl rfl dX0_of_184
    · refine gc_aload_n hG (v := vr x7) (refV_x _) dX0_of_185 rfl rfl ?_
      refine gc_aload_n hG (v := .ref v0) (refV_a _) dX0_of_186 rfl rfl ?_
      refine gc_gd (fun hk => ?_)
      refine gc_get hC (ci := 0) (j := 0) (v := vr (cR s2 1 v0)) hk dX0_of_187 rfl (by decide) in_X0 q224 (fun _ h => h) rfl ?_
      refine gc_letr (fun x42 h_ => ?_)
      refine gc_rv (fun a43 h_ => ?_)
      subst h_
      refine gc_gd (fun hk => ?_)
      refine gc_getN hC (ci := 1) (j := 4) (v := .int (cI s2 10 a43)) hk dX0_of_190 rfl (by decide) in_X1 q170 (fun _ h => h) rfl ?_
      refine gc_letv (fun x44 h_ => ?_)
      refine gc_rv (fun a45 h_ => ?_)
      subst h_
      refine gc_gd (fun hk => ?_)
      refine gc_callV (f := fX5_failures a45 x44 s2) (As := [.int x44]) (rest := []) (n := 1) (d' := 3) (b := a45) hC hnL (wX5_failures (gLn X) Y hl hY a45 x44 s2) hk (ci := 4) rfl dX0_of_193 q471 q472 q473 q79 q474 ⟨by decide +kernel, by decide +kernel⟩ rfl (by decide) (by decide) (Nat.le_of_ble_eq_true rfl) (kn_I (fun r46 s47 => ?_)) kx_I
      exact gc_iret hC hrt rfl rfl dX0_of_196
    · refine gc_aload_n hG (v := .ref v0) (refV_a _) dX0_of_197 rfl rfl ?_
      refine gc_gd (fun hk => ?_)
      refine gc_get hC (ci := 0) (j := 0) (v := vr (cR s2 1 v0)) hk dX0_of_198 rfl (by decide) in_X0 q224 (fun _ h => h) rfl ?_
      refine gc_letr (fun x48 h_ => ?_)
      refine gc_iload_n hG dX0_of_201 rfl rfl ?_
      refine gc_rv (fun a49 h_ => ?_)
      subst h_
      refine gc_gd (fun hk => ?_)
      refine gc_callV (f := fX1_childrenOf a49 v1 s2) (As := [.int v1]) (rest := []) (n := 1) (d' := 1) (b := a49) hC hnL (wX1_childrenOf (gLn X) Y hl hY a49 v1 s2) hk (ci := 1) rfl dX0_of_202 q481 q482 q483 q75 q484 ⟨by decide +kernel, by decide +kernel⟩ rfl (by decide) (by decide) (Nat.le_of_ble_eq_true rfl) (kn_I (fun r50 s51 => ?_)) kx_I
      exact gc_iret hC hrt rfl rfl dX0_of_205
    · refine gc_iconst hG (-1 : Int32) dX0_of_206 (by decide) ?_
      exact gc_iret hC hrt rfl rfl dX0_of_207
def fX0_counted (v0 : Nat) (v1 : Int32) (t : cS) : Option (Int32 × cS) :=
  gd (cK t v0 = 1) (
  ob (fX0_isActor v0 v1 t) (fun r1 s2 =>
  if r1 = 0 then
    (some ((-2000000000 : Int32), s2))
  else
    gd (cK s2 v0 = 1) (
    letv (cR s2 1 v0) (fun x3 =>
    rv x3 (fun a4 =>
    gd (cK s2 a4 = 2) (
    letv (cR s2 6 a4) (fun x5 =>
    rv x5 (fun a6 =>
    gd (cK s2 a6 = 23 ∧ cIn s2 a6 v1) (
    letv (cR s2 (er (v1).toNatClampNeg) a6) (fun x7 =>
    rv x7 (fun a8 =>
    gd (cK s2 a8 = 5) (
    letv (cI s2 34 a8) (fun x9 =>
    (some (x9, s2))
    )
    )
    )
    )
    )
    )
    )
    )
    )
    )
    )
  )
  )
theorem mfX0_counted (v0 : Nat) (v1 : Int32) (t : cS) : MO t (fX0_counted v0 v1 t) := by
  unfold fX0_counted
  refine mo_gd ?_
  refine mo_ob (by apply mfX0_isActor) (fun _ _ => ?_)
  refine mo_ite ?_ ?_
  · exact mo_some
  · refine mo_gd ?_
    refine mo_letv (fun _ => ?_)
    refine mo_rv (fun _ => ?_)
    refine mo_gd ?_
    refine mo_letv (fun _ => ?_)
    refine mo_rv (fun _ => ?_)
    refine mo_gd ?_
    refine mo_letv (fun _ => ?_)
    refine mo_rv (fun _ => ?_)
    refine mo_gd ?_
    refine mo_letv (fun _ => ?_)
    exact mo_some
set_option maxHeartbeats 4000000 in
theorem wX0_counted (l : Launch) (Y : cY) (hl : l.stackTraces = false) (hY : ∀ q, q < Y.2.2.2.2.size → ¬ Y.2.2.2.1 q) (v0 : Nat) (v1 : Int32) (t : cS) : cFn l Y yX0_counted (ws_ yX0_counted cX0_counted 2 (some .int)) 2 [.ref v0, .int v1] t (fX0_counted v0 v1 t) rI := by
  refine cmet (av := [.ref v0, .int v1]) (mfX0_counted v0 v1 t) hl hY (by decide +kernel) (lg_le (List.forall_mem_cons.mpr ⟨rfl, List.forall_mem_cons.mpr ⟨rfl, fun _ h => absurd h List.not_mem_nil⟩⟩) (Nat.le_of_ble_eq_true rfl)) (lv_args_cat (List.forall_mem_cons.mpr ⟨rfl, List.forall_mem_cons.mpr ⟨rfl, fun _ h => absurd h List.not_mem_nil⟩⟩)) ?_
  intro X ad0 hln hC hnL hrt hnm hT hmd
  subst hln
  have hG := hC.1
  rw [lv_args_s (List.forall_mem_cons.mpr ⟨rfl, List.forall_mem_cons.mpr ⟨rfl, fun _ h => absurd h List.not_mem_nil⟩⟩)]
  show GC X Y (cM Y X 2 t ad0 rI) _ t 0 [(0, .ref v0), (1, .int v1)] []
  unfold fX0_counted
  refine gc_aload_n hG (v := .ref v0) (refV_a _) dX0_counted_0 rfl rfl ?_
  refine gc_iload_n hG dX0_counted_1 rfl rfl ?_
  refine gc_gd (fun hk => ?_)
  refine gc_callV (f := fX0_isActor v0 v1 t) (As := [.int v1]) (rest := []) (n := 1) (d' := 1) (b := v0) hC hnL (wX0_isActor (gLn X) Y hl hY v0 v1 t) hk (ci := 0) rfl dX0_counted_2 q366 q368 qs0 q74 q369 ⟨by decide +kernel, by decide +kernel⟩ rfl (by decide) (by decide) (Nat.le_of_ble_eq_true rfl) (kn_I (fun r1 s2 => ?_)) kx_I
  refine gc_if_eq hG (tgt := 23) dX0_counted_5 (by decide) ?_ ?_
  · refine gc_ldc hG (-2000000000 : Int32) dX0_counted_23 q489 ?_
    exact gc_iret hC hrt rfl rfl dX0_counted_25
  · refine gc_aload_n hG (v := .ref v0) (refV_a _) dX0_counted_8 rfl rfl ?_
    refine gc_gd (fun hk => ?_)
    refine gc_get hC (ci := 0) (j := 0) (v := vr (cR s2 1 v0)) hk dX0_counted_9 rfl (by decide) in_X0 q224 (fun _ h => h) rfl ?_
    refine gc_letr (fun x3 h_ => ?_)
    refine gc_rv (fun a4 h_ => ?_)
    subst h_
    refine gc_gd (fun hk => ?_)
    refine gc_getN hC (ci := 1) (j := 0) (v := vr (cR s2 6 a4)) hk dX0_counted_12 rfl (by decide) in_X1 q160 (fun _ h => h) rfl ?_
    refine gc_letr (fun x5 h_ => ?_)
    refine gc_iload_n hG dX0_counted_15 rfl rfl ?_
    refine gc_rv (fun a6 h_ => ?_)
    subst h_
    refine gc_gd (fun hk => ?_)
    refine gc_aald hC hk.1 (by decide) (by decide) (t0 := 3) rfl hk.2 dX0_counted_16 ?_
    refine gc_letr (fun x7 h_ => ?_)
    refine gc_rv (fun a8 h_ => ?_)
    subst h_
    refine gc_gd (fun hk => ?_)
    refine gc_getN hC (ci := 4) (j := 8) (v := .int (cI s2 34 a8)) hk dX0_counted_17 rfl (by decide) in_X5 q305 (fun _ h => h) rfl ?_
    refine gc_letv (fun x9 h_ => ?_)
    refine gc_goto hG (tgt := 25) dX0_counted_20 (by decide) ?_
    exact gc_iret hC hrt rfl rfl dX0_counted_25
def fX10_code (v0 : Nat) (t : cS) : Option (Int32 × cS) :=
  gd (cK t v0 = 9) (
  letv (cI t 50 v0) (fun x1 =>
  (some ((((nI 200) + x1)), t))
  )
  )
theorem mfX10_code (v0 : Nat) (t : cS) : MO t (fX10_code v0 t) := by
  unfold fX10_code
  refine mo_gd ?_
  refine mo_letv (fun _ => ?_)
  exact mo_some
set_option maxHeartbeats 4000000 in
theorem wX10_code (l : Launch) (Y : cY) (hl : l.stackTraces = false) (hY : ∀ q, q < Y.2.2.2.2.size → ¬ Y.2.2.2.1 q) (v0 : Nat) (t : cS) : cFn l Y yX10_code (ws_ yX10_code cX10_code 1 (some .int)) 1 [.ref v0] t (fX10_code v0 t) rI := by
  refine cmet (av := [.ref v0]) (mfX10_code v0 t) hl hY (by decide +kernel) (lg_le (List.forall_mem_cons.mpr ⟨rfl, fun _ h => absurd h List.not_mem_nil⟩) (Nat.le_of_ble_eq_true rfl)) (lv_args_cat (List.forall_mem_cons.mpr ⟨rfl, fun _ h => absurd h List.not_mem_nil⟩)) ?_
  intro X ad0 hln hC hnL hrt hnm hT hmd
  subst hln
  have hG := hC.1
  rw [lv_args_s (List.forall_mem_cons.mpr ⟨rfl, fun _ h => absurd h List.not_mem_nil⟩)]
  show GC X Y (cM Y X 1 t ad0 rI) _ t 0 [(0, .ref v0)] []
  unfold fX10_code
  refine gc_sipush hG (nI 200) dX10_code_0 (by decide) ?_
  refine gc_aload_n hG (v := .ref v0) (refV_a _) dX10_code_3 rfl rfl ?_
  refine gc_gd (fun hk => ?_)
  refine gc_get hC (ci := 8) (j := 1) (v := .int (cI t 50 v0)) hk dX10_code_4 rfl (by decide) in_X10 q679 (fun _ h => h) rfl ?_
  refine gc_letv (fun x1 h_ => ?_)
  refine gc_iadd hG dX10_code_7 ?_
  exact gc_iret hC hrt rfl rfl dX10_code_8
def fX7_code (v0 : Nat) (t : cS) : Option (Int32 × cS) :=
  gd (cK t v0 = 6) (
  letv (cI t 44 v0) (fun x1 =>
  (some (x1, t))
  )
  )
theorem mfX7_code (v0 : Nat) (t : cS) : MO t (fX7_code v0 t) := by
  unfold fX7_code
  refine mo_gd ?_
  refine mo_letv (fun _ => ?_)
  exact mo_some
set_option maxHeartbeats 4000000 in
theorem wX7_code (l : Launch) (Y : cY) (hl : l.stackTraces = false) (hY : ∀ q, q < Y.2.2.2.2.size → ¬ Y.2.2.2.1 q) (v0 : Nat) (t : cS) : cFn l Y yX7_code (ws_ yX7_code cX7_code 1 (some .int)) 1 [.ref v0] t (fX7_code v0 t) rI := by
  refine cmet (av := [.ref v0]) (mfX7_code v0 t) hl hY (by decide +kernel) (lg_le (List.forall_mem_cons.mpr ⟨rfl, fun _ h => absurd h List.not_mem_nil⟩) (Nat.le_of_ble_eq_true rfl)) (lv_args_cat (List.forall_mem_cons.mpr ⟨rfl, fun _ h => absurd h List.not_mem_nil⟩)) ?_
  intro X ad0 hln hC hnL hrt hnm hT hmd
  subst hln
  have hG := hC.1
  rw [lv_args_s (List.forall_mem_cons.mpr ⟨rfl, fun _ h => absurd h List.not_mem_nil⟩)]
  show GC X Y (cM Y X 1 t ad0 rI) _ t 0 [(0, .ref v0)] []
  unfold fX7_code
  refine gc_aload_n hG (v := .ref v0) (refV_a _) dX7_code_0 rfl rfl ?_
  refine gc_gd (fun hk => ?_)
  refine gc_get hC (ci := 5) (j := 1) (v := .int (cI t 44 v0)) hk dX7_code_1 rfl (by decide) in_X7 q380 (fun _ h => h) rfl ?_
  refine gc_letv (fun x1 h_ => ?_)
  exact gc_iret hC hrt rfl rfl dX7_code_4
def fD_code (v0 : Nat) (t : cS) : Option (Int32 × cS) :=
  if cK t v0 = 6 then fX7_code v0 t else
  gd (cK t v0 = 9) (fX10_code v0 t)
theorem mfD_code (v0 : Nat) (t : cS) : MO t (fD_code v0 t) := by
  unfold fD_code
  refine mo_ite (by apply mfX7_code) ?_
  exact mo_gd (by apply mfX10_code)
set_option maxHeartbeats 4000000 in
theorem gD_code {α : Type} {X : gCx} {Y : cY} {M : cMd α} {t : cS} {pc d index : Nat} {lv : List (Nat × Value)} {rest : List Value} {own : String} {cc : ByteArray} {K : Int32 → cS → Option (α × cS)} {v0 : Nat}  (hC : cOk X Y own cc d) (hnL : gLoc X = M.1) (hl : (gLn X).stackTraces = false) (hY : ∀ q, q < Y.2.2.2.2.size → ¬ Y.2.2.2.1 q) (hdg : decode cc pc = .ok (.invokevirtual index, 3)) (w1 : Cond.methodLink own index ⟨"ActorTrees$Message", "code", "()I"⟩ ∈ lw_all) (hd : 2 ≤ d) (hs8 : (rest.map fun v => v.category).sum ≤ 8) (kn : ∀ (r : Int32) (s1 : cS) (v : Option Value), rI r = .inl v → GC X Y M (K r s1) s1 (pc + 3) lv (v.toList ++ rest)) (kx : ∀ (r : Int32) (s1 : cS) (x : Nat), rI r = .inr x → GX X Y M (K r s1) s1 pc lv x) : GC X Y M (ob (fD_code v0 t) K) t pc lv (.ref v0 :: rest) := by
  rw [fD_code]
  refine gc_obif (fun hk => gc_callU (As := []) (rest := rest) (n := 0) (d' := 1) (x := ⟨"ActorTrees$Message", "code", "()I"⟩) hC hnL (wX7_code (gLn X) Y hl hY v0 t) hk (ci := 5) rfl hdg w1 q596 q595 q598 q597 q81 q599 (by decide +kernel) (by decide +kernel) rfl (by omega) (by decide) hs8 kn kx) (fun _ => ?_)
  exact gc_obgd (fun hk => gc_callU (As := []) (rest := rest) (n := 0) (d' := 1) (x := ⟨"ActorTrees$Message", "code", "()I"⟩) hC hnL (wX10_code (gLn X) Y hl hY v0 t) hk (ci := 8) rfl hdg w1 q596 q595 q601 q600 q90 q602 (by decide +kernel) (by decide +kernel) rfl (by omega) (by decide) hs8 kn kx)
def fX2_at_L7 (v3 : Option Nat) (kx : cS → Option (Option Nat × cS)) : Nat → Int32 → cS → Option (Option Nat × cS)
  | 0, _, _ => none
  | k + 1, v2, t =>
    rv v3 (fun a3 =>
    gd (cK t a3 = 8) (
    ob (fX9_hasNext a3 t) (fun r4 s5 =>
    if r4 = 0 then
      kx s5
    else
      gd (cK s5 a3 = 8) (
      ob (fX9_next a3 s5) (fun r6 s7 =>
      if v2 = 0 then
        (some (r6, s7))
      else
        letv (v2 + (-1 : Int32)) (fun y8 =>
        fX2_at_L7 v3 kx k y8 s7
        )
      )
      )
    )
    )
    )
theorem mfX2_at_L7 (v3 : Option Nat) (kx : cS → Option (Option Nat × cS)) (hkx : ∀  (t : cS), MO t (kx t)) : ∀ (k : Nat) (v2 : Int32) (t : cS), MO t (fX2_at_L7 v3 kx k v2 t) := by
  intro k
  induction k with
  | zero => intro v2 t; exact mo_none
  | succ k ih =>
    intro v2 t
    rw [fX2_at_L7]
    refine mo_rv (fun _ => ?_)
    refine mo_gd ?_
    refine mo_ob (by apply mfX9_hasNext) (fun _ _ => ?_)
    refine mo_ite ?_ ?_
    · exact hkx _
    · refine mo_gd ?_
      refine mo_ob (by apply mfX9_next) (fun _ _ => ?_)
      refine mo_ite ?_ ?_
      · exact mo_some
      · refine mo_letv (fun _ => ?_)
        exact ih _ _
set_option maxHeartbeats 4000000 in
theorem gfX2_at_L7 {X : gCx} {Y : cY} {s0 : cS} {ad0 : Nat → Nat} (hC : cOk X Y RX2 cX2_at 3) (hl : (gLn X).stackTraces = false) (hY : ∀ q, q < Y.2.2.2.2.size → ¬ Y.2.2.2.1 q) (hnL : gLoc X = 5) (hrt : gRet X = (some (.object "java/lang/Object"))) (hnm : X.2.2.2.2.2.2.2.2.1.name = "at") (hT : gTab X = []) (hmd : (gSt X).methodNamed? yX2_at = some (gMe X)) (v3 : Option Nat) (kx : cS → Option (Option Nat × cS)) (hkx : ∀  (t : cS), GC X Y (cM Y X 5 s0 ad0 rR) (kx t) t 37 [] []) : ∀ (k : Nat) (v2 : Int32) (t : cS), GC X Y (cM Y X 5 s0 ad0 rR) (fX2_at_L7 v3 kx k v2 t) t 7 [(2, .int v2), (3, vr v3)] [] := by
  have hG := hC.1
  intro k
  induction k with
  | zero => intro v2 t; exact gc_none
  | succ k ih =>
    intro v2 t
    rw [fX2_at_L7]
    refine gc_aload_n hG (v := vr v3) (refV_x _) dX2_at_7 rfl rfl ?_
    refine gc_rv (fun a3 h_ => ?_)
    subst h_
    refine gc_gd (fun hk => ?_)
    refine gc_callF (f := fX9_hasNext a3 t) (As := []) (rest := []) (n := 0) (d' := 1) (b := a3) (x := ⟨"java/util/Iterator", "hasNext", "()Z"⟩) hC hnL (wX9_hasNext (gLn X) Y hl hY a3 t) hk (ci := 7) rfl dX2_at_8 q590 (by decide +kernel) q458 q456 q83 q460 (by decide +kernel) rfl (by decide) (by decide) (Nat.le_of_ble_eq_true rfl) (kn_I (fun r4 s5 => ?_)) kx_I
    refine gc_if_eq hG (tgt := 37) dX2_at_13 (by decide) ?_ ?_
    · refine gc_sub [] rfl ?_
      exact hkx s5
    · refine gc_aload_n hG (v := .ref a3) (refV_a _) dX2_at_16 rfl rfl ?_
      refine gc_gd (fun hk => ?_)
      refine gc_callF (f := fX9_next a3 s5) (As := []) (rest := []) (n := 0) (d' := 1) (b := a3) (x := ⟨"java/util/Iterator", "next", "()Ljava/lang/Object;"⟩) hC hnL (wX9_next (gLn X) Y hl hY a3 s5) hk (ci := 7) rfl dX2_at_17 q592 (by decide +kernel) q467 q465 q83 q469 (by decide +kernel) rfl (by decide) (by decide) (Nat.le_of_ble_eq_true rfl) (kn_R (fun r6 s7 => ?_)) kx_R
      refine gc_astore hG (refV_x _) dX2_at_22 (Nat.le_of_ble_eq_true rfl) (lv' := [(2, _), (3, _), (4, _)]) rfl ?_
      refine gc_iload_n hG dX2_at_24 rfl rfl ?_
      refine gc_if_ne hG (tgt := 31) dX2_at_25 (by decide) ?_ ?_
      · refine gc_aload hG (v := vr r6) (refV_x _) dX2_at_28 rfl ?_
        exact gc_aret hC hrt (Or.inl ⟨_, rfl⟩) (refV_x _) rfl dX2_at_30
      · refine gc_letiinc hG (c := (-1 : Int32)) (lv' := fun y8 => [(2, .int y8), (3, .ref a3), (4, vr r6)]) dX2_at_31 rfl (by decide) (Nat.le_of_ble_eq_true rfl) (fun _ => rfl) (fun y8 => ?_)
        refine gc_goto hG (tgt := 7) dX2_at_34 (by decide) ?_
        refine gc_sub [0, 1] rfl ?_
        exact ih y8 s7
def fX2_at (v0 : Nat) (v1 : Int32) (t : cS) : Option (Option Nat × cS) :=
  gd (cK t v0 = 3) (
  ob (fX2_iterator v0 t) (fun r1 s2 =>
  fX2_at_L7 r1 (fun  (t9 : cS) =>
    (some (none, t9))
    ) FU v1 s2
  )
  )
theorem mfX2_at (v0 : Nat) (v1 : Int32) (t : cS) : MO t (fX2_at v0 v1 t) := by
  unfold fX2_at
  refine mo_gd ?_
  refine mo_ob (by apply mfX2_iterator) (fun _ _ => ?_)
  refine mfX2_at_L7 _ _ (fun _ => ?_) _ _ _
  exact mo_some
set_option maxHeartbeats 4000000 in
theorem wX2_at (l : Launch) (Y : cY) (hl : l.stackTraces = false) (hY : ∀ q, q < Y.2.2.2.2.size → ¬ Y.2.2.2.1 q) (v0 : Nat) (v1 : Int32) (t : cS) : cFn l Y yX2_at (ws_ yX2_at cX2_at 5 (some (.object "java/lang/Object"))) 3 [.ref v0, .int v1] t (fX2_at v0 v1 t) rR := by
  refine cmet (av := [.ref v0, .int v1]) (mfX2_at v0 v1 t) hl hY (by decide +kernel) (lg_le (List.forall_mem_cons.mpr ⟨rfl, List.forall_mem_cons.mpr ⟨rfl, fun _ h => absurd h List.not_mem_nil⟩⟩) (Nat.le_of_ble_eq_true rfl)) (lv_args_cat (List.forall_mem_cons.mpr ⟨rfl, List.forall_mem_cons.mpr ⟨rfl, fun _ h => absurd h List.not_mem_nil⟩⟩)) ?_
  intro X ad0 hln hC hnL hrt hnm hT hmd
  subst hln
  have hG := hC.1
  rw [lv_args_s (List.forall_mem_cons.mpr ⟨rfl, List.forall_mem_cons.mpr ⟨rfl, fun _ h => absurd h List.not_mem_nil⟩⟩)]
  show GC X Y (cM Y X 5 t ad0 rR) _ t 0 [(0, .ref v0), (1, .int v1)] []
  unfold fX2_at
  refine gc_iload_n hG dX2_at_0 rfl rfl ?_
  refine gc_istore_n hG dX2_at_1 rfl (Nat.le_of_ble_eq_true rfl) (lv' := [(0, _), (1, _), (2, _)]) rfl ?_
  refine gc_aload_n hG (v := .ref v0) (refV_a _) dX2_at_2 rfl rfl ?_
  refine gc_gd (fun hk => ?_)
  refine gc_callV (f := fX2_iterator v0 t) (As := []) (rest := []) (n := 0) (d' := 2) (b := v0) hC hnL (wX2_iterator (gLn X) Y hl hY v0 t) hk (ci := 2) rfl dX2_at_3 q588 q435 q436 q76 q437 ⟨by decide +kernel, by decide +kernel⟩ rfl (by decide) (by decide) (Nat.le_of_ble_eq_true rfl) (kn_R (fun r1 s2 => ?_)) kx_R
  refine gc_astore_n hG (refV_x _) dX2_at_6 rfl (Nat.le_of_ble_eq_true rfl) (lv' := [(0, _), (1, _), (2, _), (3, _)]) rfl ?_
  refine gc_sub [2, 3] rfl ?_
  refine gfX2_at_L7 (s0 := t) (ad0 := ad0) hC hl hY hnL hrt hnm hT hmd r1  _ (fun t9 => ?_) FU v1 s2
  refine gc_null hG dX2_at_37 ?_
  exact gc_aret hC hrt (Or.inl ⟨_, rfl⟩) (Or.inl rfl) rfl dX2_at_38
def fX0_messageOf (v0 : Nat) (v1 : Int32) (v2 : Int32) (v3 : Int32) (t : cS) : Option (Option Nat × cS) :=
  gd (cK t v0 = 1) (
  letv (cR t 1 v0) (fun x1 =>
  rv x1 (fun a2 =>
  gd (cK t a2 = 2) (
  letv (cR t 6 a2) (fun x3 =>
  rv x3 (fun a4 =>
  gd (cK t a4 = 23 ∧ cIn t a4 v1) (
  letv (cR t (er (v1).toNatClampNeg) a4) (fun x5 =>
  jn (fun (x6 : Option Nat) (t7 : cS) =>
    rv x6 (fun a9 =>
    gd (cK t7 a9 = 3) (
    ob (fX2_at a9 v2 t7) (fun r10 s11 =>
    onul r10 (
      (some (none, s11))
    ) (fun a12 =>
      gd (cK s11 a12 = 6 ∨ cK s11 a12 = 9) (
      (some ((some a12), s11))
      )
    )
    )
    )
    )
    ) (fun (j8 : Option Nat → cS → Option (Option Nat × cS)) =>
    if v3 = 0 then
      rv x5 (fun a13 =>
      gd (cK t a13 = 5) (
      letv (cR t 37 a13) (fun x14 =>
      j8 x14 t
      )
      )
      )
    else
      rv x5 (fun a15 =>
      gd (cK t a15 = 5) (
      letv (cR t 38 a15) (fun x16 =>
      j8 x16 t
      )
      )
      )
    )
  )
  )
  )
  )
  )
  )
  )
  )
theorem mfX0_messageOf (v0 : Nat) (v1 : Int32) (v2 : Int32) (v3 : Int32) (t : cS) : MO t (fX0_messageOf v0 v1 v2 v3 t) := by
  unfold fX0_messageOf
  refine mo_gd ?_
  refine mo_letv (fun _ => ?_)
  refine mo_rv (fun _ => ?_)
  refine mo_gd ?_
  refine mo_letv (fun _ => ?_)
  refine mo_rv (fun _ => ?_)
  refine mo_gd ?_
  refine mo_letv (fun _ => ?_)
  refine mo_jn (fun j_ => ∀ ( x6 : Option Nat ) ( t7 : cS ), MO t7 (j_ x6 t7)) (fun x6 t7 => ?_) (fun j8 hj8 => ?_)
  · refine mo_rv (fun _ => ?_)
    refine mo_gd ?_
    refine mo_ob (by apply mfX2_at) (fun _ _ => ?_)
    refine mo_onul ?_ (fun _ => ?_)
    · exact mo_some
    · refine mo_gd ?_
      exact mo_some
  · refine mo_ite ?_ ?_
    · refine mo_rv (fun _ => ?_)
      refine mo_gd ?_
      refine mo_letv (fun _ => ?_)
      exact hj8 _ _
    · refine mo_rv (fun _ => ?_)
      refine mo_gd ?_
      refine mo_letv (fun _ => ?_)
      exact hj8 _ _
set_option maxHeartbeats 4000000 in
theorem wX0_messageOf (l : Launch) (Y : cY) (hl : l.stackTraces = false) (hY : ∀ q, q < Y.2.2.2.2.size → ¬ Y.2.2.2.1 q) (v0 : Nat) (v1 : Int32) (v2 : Int32) (v3 : Int32) (t : cS) : cFn l Y yX0_messageOf (ws_ yX0_messageOf cX0_messageOf 5 (some (.object "ActorTrees$Message"))) 4 [.ref v0, .int v1, .int v2, .int v3] t (fX0_messageOf v0 v1 v2 v3 t) rR := by
  refine cmet (av := [.ref v0, .int v1, .int v2, .int v3]) (mfX0_messageOf v0 v1 v2 v3 t) hl hY (by decide +kernel) (lg_le (List.forall_mem_cons.mpr ⟨rfl, List.forall_mem_cons.mpr ⟨rfl, List.forall_mem_cons.mpr ⟨rfl, List.forall_mem_cons.mpr ⟨rfl, fun _ h => absurd h List.not_mem_nil⟩⟩⟩⟩) (Nat.le_of_ble_eq_true rfl)) (lv_args_cat (List.forall_mem_cons.mpr ⟨rfl, List.forall_mem_cons.mpr ⟨rfl, List.forall_mem_cons.mpr ⟨rfl, List.forall_mem_cons.mpr ⟨rfl, fun _ h => absurd h List.not_mem_nil⟩⟩⟩⟩)) ?_
  intro X ad0 hln hC hnL hrt hnm hT hmd
  subst hln
  have hG := hC.1
  rw [lv_args_s (List.forall_mem_cons.mpr ⟨rfl, List.forall_mem_cons.mpr ⟨rfl, List.forall_mem_cons.mpr ⟨rfl, List.forall_mem_cons.mpr ⟨rfl, fun _ h => absurd h List.not_mem_nil⟩⟩⟩⟩)]
  show GC X Y (cM Y X 5 t ad0 rR) _ t 0 [(0, .ref v0), (1, .int v1), (2, .int v2), (3, .int v3)] []
  unfold fX0_messageOf
  refine gc_aload_n hG (v := .ref v0) (refV_a _) dX0_messageOf_0 rfl rfl ?_
  refine gc_gd (fun hk => ?_)
  refine gc_get hC (ci := 0) (j := 0) (v := vr (cR t 1 v0)) hk dX0_messageOf_1 rfl (by decide) in_X0 q224 (fun _ h => h) rfl ?_
  refine gc_letr (fun x1 h_ => ?_)
  refine gc_rv (fun a2 h_ => ?_)
  subst h_
  refine gc_gd (fun hk => ?_)
  refine gc_getN hC (ci := 1) (j := 0) (v := vr (cR t 6 a2)) hk dX0_messageOf_4 rfl (by decide) in_X1 q160 (fun _ h => h) rfl ?_
  refine gc_letr (fun x3 h_ => ?_)
  refine gc_iload_n hG dX0_messageOf_7 rfl rfl ?_
  refine gc_rv (fun a4 h_ => ?_)
  subst h_
  refine gc_gd (fun hk => ?_)
  refine gc_aald hC hk.1 (by decide) (by decide) (t0 := 3) rfl hk.2 dX0_messageOf_8 ?_
  refine gc_letr (fun x5 h_ => ?_)
  refine gc_astore hG (refV_x _) dX0_messageOf_9 (Nat.le_of_ble_eq_true rfl) (lv' := [(0, _), (1, _), (2, _), (3, _), (4, _)]) rfl ?_
  refine gc_iload_n hG dX0_messageOf_11 rfl rfl ?_
  refine gc_jn (fun j_ => ∀ (x6 : Option Nat) (t7 : cS), GC X Y (cM Y X 5 t ad0 rR) (j_ x6 t7) t7 28 [(2, .int v2)] [vr x6]) (fun x6 t7 => ?_) (fun j8 hj8 => ?_)
  · refine gc_iload_n hG dX0_messageOf_28 rfl rfl ?_
    refine gc_rv (fun a9 h_ => ?_)
    subst h_
    refine gc_gd (fun hk => ?_)
    refine gc_callV (f := fX2_at a9 v2 t7) (As := [.int v2]) (rest := []) (n := 1) (d' := 3) (b := a9) hC hnL (wX2_at (gLn X) Y hl hY a9 v2 t7) hk (ci := 2) rfl dX0_messageOf_29 q584 q585 q586 q76 q587 ⟨by decide +kernel, by decide +kernel⟩ rfl (by decide) (by decide) (Nat.le_of_ble_eq_true rfl) (kn_R (fun r10 s11 => ?_)) kx_R
    refine gc_onul (x := r10) (fun h_ => ?_) (fun a12 h_ => ?_)
    · subst h_
      refine gc_castN hG dX0_messageOf_32 ?_
      exact gc_aret hC hrt (Or.inl ⟨_, rfl⟩) (Or.inl rfl) rfl dX0_messageOf_35
    · subst h_
      refine gc_gd (fun hk => ?_)
      refine gc_or2 hk (fun hk h_ => gc_castY hC hk (ci := 5) rfl q593 q1678 dX0_messageOf_32 h_) (fun hk h_ => gc_castY hC hk (ci := 8) rfl q593 q1679 dX0_messageOf_32 h_) ?_
      exact gc_aret hC hrt (Or.inl ⟨_, rfl⟩) (refV_a _) rfl dX0_messageOf_35
  · refine gc_if_eq hG (tgt := 23) dX0_messageOf_12 (by decide) ?_ ?_
    · refine gc_aload hG (v := vr x5) (refV_x _) dX0_messageOf_23 rfl ?_
      refine gc_rv (fun a13 h_ => ?_)
      subst h_
      refine gc_gd (fun hk => ?_)
      refine gc_getN hC (ci := 4) (j := 11) (v := vr (cR t 37 a13)) hk dX0_messageOf_25 rfl (by decide) in_X5 q314 (fun _ h => h) rfl ?_
      refine gc_letr (fun x14 h_ => ?_)
      refine gc_sub [2] rfl ?_
      exact hj8 x14 t
    · refine gc_aload hG (v := vr x5) (refV_x _) dX0_messageOf_15 rfl ?_
      refine gc_rv (fun a15 h_ => ?_)
      subst h_
      refine gc_gd (fun hk => ?_)
      refine gc_getN hC (ci := 4) (j := 12) (v := vr (cR t 38 a15)) hk dX0_messageOf_17 rfl (by decide) in_X5 q317 (fun _ h => h) rfl ?_
      refine gc_letr (fun x16 h_ => ?_)
      refine gc_goto hG (tgt := 28) dX0_messageOf_20 (by decide) ?_
      refine gc_sub [2] rfl ?_
      exact hj8 x16 t
def fX0_message (v0 : Nat) (v1 : Int32) (v2 : Int32) (v3 : Int32) (t : cS) : Option (Int32 × cS) :=
  gd (cK t v0 = 1) (
  ob (fX0_isActor v0 v1 t) (fun r1 s2 =>
  if r1 = 0 then
    (some ((-1 : Int32), s2))
  else
    if v2 < 0 then
      (some ((-1 : Int32), s2))
    else
      gd (cK s2 v0 = 1) (
      ob (fX0_messageOf v0 v1 v2 v3 s2) (fun r3 s4 =>
      onul r3 (
        letv (sX s4 1 8) (fun s9 =>
        (some ((-2 : Int32), s9))
        )
      ) (fun a6 =>
        ob (fD_code a6 s4) (fun r7 s8 =>
        (some ((((nI 100) + r7)), s8))
        )
      )
      )
      )
  )
  )
theorem mfX0_message (v0 : Nat) (v1 : Int32) (v2 : Int32) (v3 : Int32) (t : cS) : MO t (fX0_message v0 v1 v2 v3 t) := by
  unfold fX0_message
  refine mo_gd ?_
  refine mo_ob (by apply mfX0_isActor) (fun _ _ => ?_)
  refine mo_ite ?_ ?_
  · exact mo_some
  · refine mo_ite ?_ ?_
    · exact mo_some
    · refine mo_gd ?_
      refine mo_ob (by apply mfX0_messageOf) (fun _ _ => ?_)
      refine mo_onul ?_ (fun _ => ?_)
      · refine mo_letS cMo_sX (fun _ => ?_)
        exact mo_some
      · refine mo_ob (by apply mfD_code) (fun _ _ => ?_)
        exact mo_some
set_option maxHeartbeats 4000000 in
theorem wX0_message (l : Launch) (Y : cY) (hl : l.stackTraces = false) (hY : ∀ q, q < Y.2.2.2.2.size → ¬ Y.2.2.2.1 q) (v0 : Nat) (v1 : Int32) (v2 : Int32) (v3 : Int32) (t : cS) : cFn l Y yX0_message (wsW_ yX0_message cX0_message 5 (some .int) [(14, 27, 28, 133)]) 5 [.ref v0, .int v1, .int v2, .int v3] t (fX0_message v0 v1 v2 v3 t) rI := by
  refine cmetW (av := [.ref v0, .int v1, .int v2, .int v3]) (mfX0_message v0 v1 v2 v3 t) hl hY (by decide +kernel) (lg_le (List.forall_mem_cons.mpr ⟨rfl, List.forall_mem_cons.mpr ⟨rfl, List.forall_mem_cons.mpr ⟨rfl, List.forall_mem_cons.mpr ⟨rfl, fun _ h => absurd h List.not_mem_nil⟩⟩⟩⟩) (Nat.le_of_ble_eq_true rfl)) (lv_args_cat (List.forall_mem_cons.mpr ⟨rfl, List.forall_mem_cons.mpr ⟨rfl, List.forall_mem_cons.mpr ⟨rfl, List.forall_mem_cons.mpr ⟨rfl, fun _ h => absurd h List.not_mem_nil⟩⟩⟩⟩)) ?_
  intro X ad0 hln hC hnL hrt hnm hT hmd
  subst hln
  have hG := hC.1
  rw [lv_args_s (List.forall_mem_cons.mpr ⟨rfl, List.forall_mem_cons.mpr ⟨rfl, List.forall_mem_cons.mpr ⟨rfl, List.forall_mem_cons.mpr ⟨rfl, fun _ h => absurd h List.not_mem_nil⟩⟩⟩⟩)]
  show GC X Y (cM Y X 5 t ad0 rI) _ t 0 [(0, .ref v0), (1, .int v1), (2, .int v2), (3, .int v3)] []
  unfold fX0_message
  refine gc_aload_n hG (v := .ref v0) (refV_a _) dX0_message_0 rfl rfl ?_
  refine gc_iload_n hG dX0_message_1 rfl rfl ?_
  refine gc_gd (fun hk => ?_)
  refine gc_callV (f := fX0_isActor v0 v1 t) (As := [.int v1]) (rest := []) (n := 1) (d' := 1) (b := v0) hC hnL (wX0_isActor (gLn X) Y hl hY v0 v1 t) hk (ci := 0) rfl dX0_message_2 q366 q368 qs0 q74 q369 ⟨by decide +kernel, by decide +kernel⟩ rfl (by decide) (by decide) (Nat.le_of_ble_eq_true rfl) (kn_I (fun r1 s2 => ?_)) kx_I
  refine gc_if_eq hG (tgt := 12) dX0_message_5 (by decide) ?_ ?_
  · refine gc_iconst hG (-1 : Int32) dX0_message_12 (by decide) ?_
    exact gc_iret hC hrt rfl rfl dX0_message_13
  · refine gc_iload_n hG dX0_message_8 rfl rfl ?_
    refine gc_if_ge hG (tgt := 14) dX0_message_9 (by decide) ?_ ?_
    · refine gc_iconst hG (-1 : Int32) dX0_message_12 (by decide) ?_
      exact gc_iret hC hrt rfl rfl dX0_message_13
    · refine gc_bipush hG (nI 100) dX0_message_14 (by decide) ?_
      refine gc_aload_n hG (v := .ref v0) (refV_a _) dX0_message_16 rfl rfl ?_
      refine gc_iload_n hG dX0_message_17 rfl rfl ?_
      refine gc_iload_n hG dX0_message_18 rfl rfl ?_
      refine gc_iload_n hG dX0_message_19 rfl rfl ?_
      refine gc_gd (fun hk => ?_)
      refine gc_callV (f := fX0_messageOf v0 v1 v2 v3 s2) (As := [.int v1, .int v2, .int v3]) (rest := [.int (nI 100)]) (n := 3) (d' := 4) (b := v0) hC hnL (wX0_messageOf (gLn X) Y hl hY v0 v1 v2 v3 s2) hk (ci := 0) rfl dX0_message_20 q580 q582 qs4 q74 q583 ⟨by decide +kernel, by decide +kernel⟩ rfl (by decide) (by decide) (Nat.le_of_ble_eq_true rfl) (kn_R (fun r3 s4 => ?_)) kx_R
      refine gc_onul (x := r3) (fun h_ => ?_) (fun a6 h_ => ?_)
      · subst h_
        refine gc_invXU (As := []) (st := [.int (nI 100)]) (x := ⟨"ActorTrees$Message", "code", "()I"⟩) hC dX0_message_23 q594 q596 q595 q597 ⟨by decide +kernel, by decide +kernel⟩ (Nat.le_of_ble_eq_true rfl) ?_
        refine gnn_catch hC hnL [] ((tableOf [(14, 27, 28, 133)])[0]) [] (by rw [hT]; rfl) (fun _ h => absurd h List.not_mem_nil) rfl (by decide) q494 q564 rfl ?_
        refine gc_sub [] rfl ?_
        refine gn_letS (fun s9 => ?_)
        refine gc_astore hG (refV_a _) dX0_message_28 (Nat.le_of_ble_eq_true rfl) (lv' := [(4, _)]) rfl ?_
        refine gc_bipush hG (-2 : Int32) dX0_message_30 (by decide) ?_
        exact gc_iret hC hrt rfl rfl dX0_message_32
      · subst h_
        refine gD_code (rest := [.int (nI 100)]) hC hnL hl hY dX0_message_23 q594 (by decide) (Nat.le_of_ble_eq_true rfl) (kn_I (fun r7 s8 => ?_)) kx_I
        refine gc_iadd hG dX0_message_26 ?_
        exact gc_iret hC hrt rfl rfl dX0_message_27
def fX0_sender (v0 : Nat) (v1 : Int32) (v2 : Int32) (v3 : Int32) (t : cS) : Option (Int32 × cS) :=
  gd (cK t v0 = 1) (
  ob (fX0_isActor v0 v1 t) (fun r1 s2 =>
  if r1 = 0 then
    (some ((-2 : Int32), s2))
  else
    if v2 < 0 then
      (some ((-2 : Int32), s2))
    else
      gd (cK s2 v0 = 1) (
      ob (fX0_messageOf v0 v1 v2 v3 s2) (fun r3 s4 =>
      onul r3 (
        (some ((-2 : Int32), s4))
      ) (fun a5 =>
        gd (cK s4 a5 = 6 ∨ cK s4 a5 = 9) (
        letv (cI s4 43 a5) (fun x6 =>
        (some (x6, s4))
        )
        )
      )
      )
      )
  )
  )
theorem mfX0_sender (v0 : Nat) (v1 : Int32) (v2 : Int32) (v3 : Int32) (t : cS) : MO t (fX0_sender v0 v1 v2 v3 t) := by
  unfold fX0_sender
  refine mo_gd ?_
  refine mo_ob (by apply mfX0_isActor) (fun _ _ => ?_)
  refine mo_ite ?_ ?_
  · exact mo_some
  · refine mo_ite ?_ ?_
    · exact mo_some
    · refine mo_gd ?_
      refine mo_ob (by apply mfX0_messageOf) (fun _ _ => ?_)
      refine mo_onul ?_ (fun _ => ?_)
      · exact mo_some
      · refine mo_gd ?_
        refine mo_letv (fun _ => ?_)
        exact mo_some
set_option maxHeartbeats 4000000 in
theorem wX0_sender (l : Launch) (Y : cY) (hl : l.stackTraces = false) (hY : ∀ q, q < Y.2.2.2.2.size → ¬ Y.2.2.2.1 q) (v0 : Nat) (v1 : Int32) (v2 : Int32) (v3 : Int32) (t : cS) : cFn l Y yX0_sender (ws_ yX0_sender cX0_sender 5 (some .int)) 5 [.ref v0, .int v1, .int v2, .int v3] t (fX0_sender v0 v1 v2 v3 t) rI := by
  refine cmet (av := [.ref v0, .int v1, .int v2, .int v3]) (mfX0_sender v0 v1 v2 v3 t) hl hY (by decide +kernel) (lg_le (List.forall_mem_cons.mpr ⟨rfl, List.forall_mem_cons.mpr ⟨rfl, List.forall_mem_cons.mpr ⟨rfl, List.forall_mem_cons.mpr ⟨rfl, fun _ h => absurd h List.not_mem_nil⟩⟩⟩⟩) (Nat.le_of_ble_eq_true rfl)) (lv_args_cat (List.forall_mem_cons.mpr ⟨rfl, List.forall_mem_cons.mpr ⟨rfl, List.forall_mem_cons.mpr ⟨rfl, List.forall_mem_cons.mpr ⟨rfl, fun _ h => absurd h List.not_mem_nil⟩⟩⟩⟩)) ?_
  intro X ad0 hln hC hnL hrt hnm hT hmd
  subst hln
  have hG := hC.1
  rw [lv_args_s (List.forall_mem_cons.mpr ⟨rfl, List.forall_mem_cons.mpr ⟨rfl, List.forall_mem_cons.mpr ⟨rfl, List.forall_mem_cons.mpr ⟨rfl, fun _ h => absurd h List.not_mem_nil⟩⟩⟩⟩)]
  show GC X Y (cM Y X 5 t ad0 rI) _ t 0 [(0, .ref v0), (1, .int v1), (2, .int v2), (3, .int v3)] []
  unfold fX0_sender
  refine gc_aload_n hG (v := .ref v0) (refV_a _) dX0_sender_0 rfl rfl ?_
  refine gc_iload_n hG dX0_sender_1 rfl rfl ?_
  refine gc_gd (fun hk => ?_)
  refine gc_callV (f := fX0_isActor v0 v1 t) (As := [.int v1]) (rest := []) (n := 1) (d' := 1) (b := v0) hC hnL (wX0_isActor (gLn X) Y hl hY v0 v1 t) hk (ci := 0) rfl dX0_sender_2 q366 q368 qs0 q74 q369 ⟨by decide +kernel, by decide +kernel⟩ rfl (by decide) (by decide) (Nat.le_of_ble_eq_true rfl) (kn_I (fun r1 s2 => ?_)) kx_I
  refine gc_if_eq hG (tgt := 12) dX0_sender_5 (by decide) ?_ ?_
  · refine gc_bipush hG (-2 : Int32) dX0_sender_12 (by decide) ?_
    exact gc_iret hC hrt rfl rfl dX0_sender_14
  · refine gc_iload_n hG dX0_sender_8 rfl rfl ?_
    refine gc_if_ge hG (tgt := 15) dX0_sender_9 (by decide) ?_ ?_
    · refine gc_bipush hG (-2 : Int32) dX0_sender_12 (by decide) ?_
      exact gc_iret hC hrt rfl rfl dX0_sender_14
    · refine gc_aload_n hG (v := .ref v0) (refV_a _) dX0_sender_15 rfl rfl ?_
      refine gc_iload_n hG dX0_sender_16 rfl rfl ?_
      refine gc_iload_n hG dX0_sender_17 rfl rfl ?_
      refine gc_iload_n hG dX0_sender_18 rfl rfl ?_
      refine gc_gd (fun hk => ?_)
      refine gc_callV (f := fX0_messageOf v0 v1 v2 v3 s2) (As := [.int v1, .int v2, .int v3]) (rest := []) (n := 3) (d' := 4) (b := v0) hC hnL (wX0_messageOf (gLn X) Y hl hY v0 v1 v2 v3 s2) hk (ci := 0) rfl dX0_sender_19 q580 q582 qs4 q74 q583 ⟨by decide +kernel, by decide +kernel⟩ rfl (by decide) (by decide) (Nat.le_of_ble_eq_true rfl) (kn_R (fun r3 s4 => ?_)) kx_R
      refine gc_astore hG (refV_x _) dX0_sender_22 (Nat.le_of_ble_eq_true rfl) (lv' := [(0, _), (1, _), (2, _), (3, _), (4, _)]) rfl ?_
      refine gc_aload hG (v := vr r3) (refV_x _) dX0_sender_24 rfl ?_
      refine gc_ifnonnull hG (tgt := 34) dX0_sender_26 (by decide) (fun h_ => ?_) (fun a5 h_ => ?_)
      · subst h_
        refine gc_bipush hG (-2 : Int32) dX0_sender_29 (by decide) ?_
        refine gc_goto hG (tgt := 39) dX0_sender_31 (by decide) ?_
        exact gc_iret hC hrt rfl rfl dX0_sender_39
      · subst h_
        refine gc_aload hG (v := .ref a5) (refV_a _) dX0_sender_34 rfl ?_
        refine gc_gd (fun hk => ?_)
        refine gc_or2 hk (fun hk h_ => gc_getN hC (ci := 5) (j := 0) (v := .int (cI s4 43 a5)) hk dX0_sender_36 rfl (by decide) in_X7 q384 (fun _ h => h) rfl h_) (fun hk h_ => gc_getN hC (ci := 8) (j := 0) (v := .int (cI s4 43 a5)) hk dX0_sender_36 rfl (by decide) in_X10 q384 (fun _ h => h) rfl h_) ?_
        refine gc_letv (fun x6 h_ => ?_)
        exact gc_iret hC hrt rfl rfl dX0_sender_39
def fX0_stack (v0 : Nat) (v1 : Int32) (v2 : Int32) (t : cS) : Option (Int32 × cS) :=
  gd (cK t v0 = 1) (
  ob (fX0_isActor v0 v1 t) (fun r1 s2 =>
  if r1 = 0 then
    (some ((-1 : Int32), s2))
  else
    if v2 < 0 then
      (some ((-1 : Int32), s2))
    else
      gd (cK s2 v0 = 1) (
      letv (cR s2 1 v0) (fun x3 =>
      rv x3 (fun a4 =>
      gd (cK s2 a4 = 2) (
      letv (cR s2 6 a4) (fun x5 =>
      rv x5 (fun a6 =>
      gd (cK s2 a6 = 23 ∧ cIn s2 a6 v1) (
      letv (cR s2 (er (v1).toNatClampNeg) a6) (fun x7 =>
      rv x7 (fun a8 =>
      gd (cK s2 a8 = 5) (
      letv (cI s2 36 a8) (fun x9 =>
      if v2 < x9 then
        gd (cK s2 a8 = 5) (
        letv (cR s2 35 a8) (fun x10 =>
        rv x10 (fun a11 =>
        gd (cK s2 a11 = 20 ∧ cIn s2 a11 v2) (
        letv (cI s2 (ei (v2).toNatClampNeg) a11) (fun x12 =>
        (some (x12, s2))
        )
        )
        )
        )
        )
      else
        (some ((-2 : Int32), s2))
      )
      )
      )
      )
      )
      )
      )
      )
      )
      )
      )
  )
  )
theorem mfX0_stack (v0 : Nat) (v1 : Int32) (v2 : Int32) (t : cS) : MO t (fX0_stack v0 v1 v2 t) := by
  unfold fX0_stack
  refine mo_gd ?_
  refine mo_ob (by apply mfX0_isActor) (fun _ _ => ?_)
  refine mo_ite ?_ ?_
  · exact mo_some
  · refine mo_ite ?_ ?_
    · exact mo_some
    · refine mo_gd ?_
      refine mo_letv (fun _ => ?_)
      refine mo_rv (fun _ => ?_)
      refine mo_gd ?_
      refine mo_letv (fun _ => ?_)
      refine mo_rv (fun _ => ?_)
      refine mo_gd ?_
      refine mo_letv (fun _ => ?_)
      refine mo_rv (fun _ => ?_)
      refine mo_gd ?_
      refine mo_letv (fun _ => ?_)
      refine mo_ite ?_ ?_
      · refine mo_gd ?_
        refine mo_letv (fun _ => ?_)
        refine mo_rv (fun _ => ?_)
        refine mo_gd ?_
        refine mo_letv (fun _ => ?_)
        exact mo_some
      · exact mo_some
set_option maxHeartbeats 4000000 in
theorem wX0_stack (l : Launch) (Y : cY) (hl : l.stackTraces = false) (hY : ∀ q, q < Y.2.2.2.2.size → ¬ Y.2.2.2.1 q) (v0 : Nat) (v1 : Int32) (v2 : Int32) (t : cS) : cFn l Y yX0_stack (ws_ yX0_stack cX0_stack 4 (some .int)) 2 [.ref v0, .int v1, .int v2] t (fX0_stack v0 v1 v2 t) rI := by
  refine cmet (av := [.ref v0, .int v1, .int v2]) (mfX0_stack v0 v1 v2 t) hl hY (by decide +kernel) (lg_le (List.forall_mem_cons.mpr ⟨rfl, List.forall_mem_cons.mpr ⟨rfl, List.forall_mem_cons.mpr ⟨rfl, fun _ h => absurd h List.not_mem_nil⟩⟩⟩) (Nat.le_of_ble_eq_true rfl)) (lv_args_cat (List.forall_mem_cons.mpr ⟨rfl, List.forall_mem_cons.mpr ⟨rfl, List.forall_mem_cons.mpr ⟨rfl, fun _ h => absurd h List.not_mem_nil⟩⟩⟩)) ?_
  intro X ad0 hln hC hnL hrt hnm hT hmd
  subst hln
  have hG := hC.1
  rw [lv_args_s (List.forall_mem_cons.mpr ⟨rfl, List.forall_mem_cons.mpr ⟨rfl, List.forall_mem_cons.mpr ⟨rfl, fun _ h => absurd h List.not_mem_nil⟩⟩⟩)]
  show GC X Y (cM Y X 4 t ad0 rI) _ t 0 [(0, .ref v0), (1, .int v1), (2, .int v2)] []
  unfold fX0_stack
  refine gc_aload_n hG (v := .ref v0) (refV_a _) dX0_stack_0 rfl rfl ?_
  refine gc_iload_n hG dX0_stack_1 rfl rfl ?_
  refine gc_gd (fun hk => ?_)
  refine gc_callV (f := fX0_isActor v0 v1 t) (As := [.int v1]) (rest := []) (n := 1) (d' := 1) (b := v0) hC hnL (wX0_isActor (gLn X) Y hl hY v0 v1 t) hk (ci := 0) rfl dX0_stack_2 q366 q368 qs0 q74 q369 ⟨by decide +kernel, by decide +kernel⟩ rfl (by decide) (by decide) (Nat.le_of_ble_eq_true rfl) (kn_I (fun r1 s2 => ?_)) kx_I
  refine gc_if_eq hG (tgt := 12) dX0_stack_5 (by decide) ?_ ?_
  · refine gc_iconst hG (-1 : Int32) dX0_stack_12 (by decide) ?_
    exact gc_iret hC hrt rfl rfl dX0_stack_13
  · refine gc_iload_n hG dX0_stack_8 rfl rfl ?_
    refine gc_if_ge hG (tgt := 14) dX0_stack_9 (by decide) ?_ ?_
    · refine gc_iconst hG (-1 : Int32) dX0_stack_12 (by decide) ?_
      exact gc_iret hC hrt rfl rfl dX0_stack_13
    · refine gc_aload_n hG (v := .ref v0) (refV_a _) dX0_stack_14 rfl rfl ?_
      refine gc_gd (fun hk => ?_)
      refine gc_get hC (ci := 0) (j := 0) (v := vr (cR s2 1 v0)) hk dX0_stack_15 rfl (by decide) in_X0 q224 (fun _ h => h) rfl ?_
      refine gc_letr (fun x3 h_ => ?_)
      refine gc_rv (fun a4 h_ => ?_)
      subst h_
      refine gc_gd (fun hk => ?_)
      refine gc_getN hC (ci := 1) (j := 0) (v := vr (cR s2 6 a4)) hk dX0_stack_18 rfl (by decide) in_X1 q160 (fun _ h => h) rfl ?_
      refine gc_letr (fun x5 h_ => ?_)
      refine gc_iload_n hG dX0_stack_21 rfl rfl ?_
      refine gc_rv (fun a6 h_ => ?_)
      subst h_
      refine gc_gd (fun hk => ?_)
      refine gc_aald hC hk.1 (by decide) (by decide) (t0 := 3) rfl hk.2 dX0_stack_22 ?_
      refine gc_letr (fun x7 h_ => ?_)
      refine gc_astore_n hG (refV_x _) dX0_stack_23 rfl (Nat.le_of_ble_eq_true rfl) (lv' := [(0, _), (1, _), (2, _), (3, _)]) rfl ?_
      refine gc_iload_n hG dX0_stack_24 rfl rfl ?_
      refine gc_aload_n hG (v := vr x7) (refV_x _) dX0_stack_25 rfl rfl ?_
      refine gc_rv (fun a8 h_ => ?_)
      subst h_
      refine gc_gd (fun hk => ?_)
      refine gc_getN hC (ci := 4) (j := 10) (v := .int (cI s2 36 a8)) hk dX0_stack_26 rfl (by decide) in_X5 q310 (fun _ h => h) rfl ?_
      refine gc_letv (fun x9 h_ => ?_)
      refine gc_icmp_ge hG (tgt := 41) dX0_stack_29 (by decide) ?_ ?_
      · refine gc_aload_n hG (v := .ref a8) (refV_a _) dX0_stack_32 rfl rfl ?_
        refine gc_gd (fun hk => ?_)
        refine gc_getN hC (ci := 4) (j := 9) (v := vr (cR s2 35 a8)) hk dX0_stack_33 rfl (by decide) in_X5 q308 (fun _ h => h) rfl ?_
        refine gc_letr (fun x10 h_ => ?_)
        refine gc_iload_n hG dX0_stack_36 rfl rfl ?_
        refine gc_rv (fun a11 h_ => ?_)
        subst h_
        refine gc_gd (fun hk => ?_)
        refine gc_iald hC hk.1 hk.2 dX0_stack_37 ?_
        refine gc_letv (fun x12 h_ => ?_)
        refine gc_goto hG (tgt := 43) dX0_stack_38 (by decide) ?_
        exact gc_iret hC hrt rfl rfl dX0_stack_43
      · refine gc_bipush hG (-2 : Int32) dX0_stack_41 (by decide) ?_
        exact gc_iret hC hrt rfl rfl dX0_stack_43
def fX0_watcher (v0 : Nat) (v1 : Int32) (v2 : Int32) (t : cS) : Option (Int32 × cS) :=
  gd (cK t v0 = 1) (
  ob (fX0_isActor v0 v1 t) (fun r1 s2 =>
  if r1 = 0 then
    (some ((-1 : Int32), s2))
  else
    if v2 < 0 then
      (some ((-1 : Int32), s2))
    else
      gd (cK s2 v0 = 1) (
      letv (cR s2 1 v0) (fun x3 =>
      rv x3 (fun a4 =>
      gd (cK s2 a4 = 2) (
      letv (cR s2 6 a4) (fun x5 =>
      rv x5 (fun a6 =>
      gd (cK s2 a6 = 23 ∧ cIn s2 a6 v1) (
      letv (cR s2 (er (v1).toNatClampNeg) a6) (fun x7 =>
      rv x7 (fun a8 =>
      gd (cK s2 a8 = 5) (
      letv (cR s2 39 a8) (fun x9 =>
      rv x9 (fun a10 =>
      gd (cK s2 a10 = 3) (
      ob (fX2_at a10 v2 s2) (fun r11 s12 =>
      onul r11 (
        (some ((-2 : Int32), s12))
      ) (fun a13 =>
        gd (cK s12 a13 = 17) (
        gd (cK s12 a13 = 17) (
        ob (fJ5_intValue a13 s12) (fun r14 s15 =>
        (some (r14, s15))
        )
        )
        )
      )
      )
      )
      )
      )
      )
      )
      )
      )
      )
      )
      )
      )
      )
      )
  )
  )
theorem mfX0_watcher (v0 : Nat) (v1 : Int32) (v2 : Int32) (t : cS) : MO t (fX0_watcher v0 v1 v2 t) := by
  unfold fX0_watcher
  refine mo_gd ?_
  refine mo_ob (by apply mfX0_isActor) (fun _ _ => ?_)
  refine mo_ite ?_ ?_
  · exact mo_some
  · refine mo_ite ?_ ?_
    · exact mo_some
    · refine mo_gd ?_
      refine mo_letv (fun _ => ?_)
      refine mo_rv (fun _ => ?_)
      refine mo_gd ?_
      refine mo_letv (fun _ => ?_)
      refine mo_rv (fun _ => ?_)
      refine mo_gd ?_
      refine mo_letv (fun _ => ?_)
      refine mo_rv (fun _ => ?_)
      refine mo_gd ?_
      refine mo_letv (fun _ => ?_)
      refine mo_rv (fun _ => ?_)
      refine mo_gd ?_
      refine mo_ob (by apply mfX2_at) (fun _ _ => ?_)
      refine mo_onul ?_ (fun _ => ?_)
      · exact mo_some
      · refine mo_gd ?_
        refine mo_gd ?_
        refine mo_ob (by apply mfJ5_intValue) (fun _ _ => ?_)
        exact mo_some
set_option maxHeartbeats 4000000 in
theorem wX0_watcher (l : Launch) (Y : cY) (hl : l.stackTraces = false) (hY : ∀ q, q < Y.2.2.2.2.size → ¬ Y.2.2.2.1 q) (v0 : Nat) (v1 : Int32) (v2 : Int32) (t : cS) : cFn l Y yX0_watcher (ws_ yX0_watcher cX0_watcher 4 (some .int)) 4 [.ref v0, .int v1, .int v2] t (fX0_watcher v0 v1 v2 t) rI := by
  refine cmet (av := [.ref v0, .int v1, .int v2]) (mfX0_watcher v0 v1 v2 t) hl hY (by decide +kernel) (lg_le (List.forall_mem_cons.mpr ⟨rfl, List.forall_mem_cons.mpr ⟨rfl, List.forall_mem_cons.mpr ⟨rfl, fun _ h => absurd h List.not_mem_nil⟩⟩⟩) (Nat.le_of_ble_eq_true rfl)) (lv_args_cat (List.forall_mem_cons.mpr ⟨rfl, List.forall_mem_cons.mpr ⟨rfl, List.forall_mem_cons.mpr ⟨rfl, fun _ h => absurd h List.not_mem_nil⟩⟩⟩)) ?_
  intro X ad0 hln hC hnL hrt hnm hT hmd
  subst hln
  have hG := hC.1
  rw [lv_args_s (List.forall_mem_cons.mpr ⟨rfl, List.forall_mem_cons.mpr ⟨rfl, List.forall_mem_cons.mpr ⟨rfl, fun _ h => absurd h List.not_mem_nil⟩⟩⟩)]
  show GC X Y (cM Y X 4 t ad0 rI) _ t 0 [(0, .ref v0), (1, .int v1), (2, .int v2)] []
  unfold fX0_watcher
  refine gc_aload_n hG (v := .ref v0) (refV_a _) dX0_watcher_0 rfl rfl ?_
  refine gc_iload_n hG dX0_watcher_1 rfl rfl ?_
  refine gc_gd (fun hk => ?_)
  refine gc_callV (f := fX0_isActor v0 v1 t) (As := [.int v1]) (rest := []) (n := 1) (d' := 1) (b := v0) hC hnL (wX0_isActor (gLn X) Y hl hY v0 v1 t) hk (ci := 0) rfl dX0_watcher_2 q366 q368 qs0 q74 q369 ⟨by decide +kernel, by decide +kernel⟩ rfl (by decide) (by decide) (Nat.le_of_ble_eq_true rfl) (kn_I (fun r1 s2 => ?_)) kx_I
  refine gc_if_eq hG (tgt := 12) dX0_watcher_5 (by decide) ?_ ?_
  · refine gc_iconst hG (-1 : Int32) dX0_watcher_12 (by decide) ?_
    exact gc_iret hC hrt rfl rfl dX0_watcher_13
  · refine gc_iload_n hG dX0_watcher_8 rfl rfl ?_
    refine gc_if_ge hG (tgt := 14) dX0_watcher_9 (by decide) ?_ ?_
    · refine gc_iconst hG (-1 : Int32) dX0_watcher_12 (by decide) ?_
      exact gc_iret hC hrt rfl rfl dX0_watcher_13
    · refine gc_aload_n hG (v := .ref v0) (refV_a _) dX0_watcher_14 rfl rfl ?_
      refine gc_gd (fun hk => ?_)
      refine gc_get hC (ci := 0) (j := 0) (v := vr (cR s2 1 v0)) hk dX0_watcher_15 rfl (by decide) in_X0 q224 (fun _ h => h) rfl ?_
      refine gc_letr (fun x3 h_ => ?_)
      refine gc_rv (fun a4 h_ => ?_)
      subst h_
      refine gc_gd (fun hk => ?_)
      refine gc_getN hC (ci := 1) (j := 0) (v := vr (cR s2 6 a4)) hk dX0_watcher_18 rfl (by decide) in_X1 q160 (fun _ h => h) rfl ?_
      refine gc_letr (fun x5 h_ => ?_)
      refine gc_iload_n hG dX0_watcher_21 rfl rfl ?_
      refine gc_rv (fun a6 h_ => ?_)
      subst h_
      refine gc_gd (fun hk => ?_)
      refine gc_aald hC hk.1 (by decide) (by decide) (t0 := 3) rfl hk.2 dX0_watcher_22 ?_
      refine gc_letr (fun x7 h_ => ?_)
      refine gc_rv (fun a8 h_ => ?_)
      subst h_
      refine gc_gd (fun hk => ?_)
      refine gc_getN hC (ci := 4) (j := 13) (v := vr (cR s2 39 a8)) hk dX0_watcher_23 rfl (by decide) in_X5 q319 (fun _ h => h) rfl ?_
      refine gc_letr (fun x9 h_ => ?_)
      refine gc_iload_n hG dX0_watcher_26 rfl rfl ?_
      refine gc_rv (fun a10 h_ => ?_)
      subst h_
      refine gc_gd (fun hk => ?_)
      refine gc_callV (f := fX2_at a10 v2 s2) (As := [.int v2]) (rest := []) (n := 1) (d' := 3) (b := a10) hC hnL (wX2_at (gLn X) Y hl hY a10 v2 s2) hk (ci := 2) rfl dX0_watcher_27 q584 q585 q586 q76 q587 ⟨by decide +kernel, by decide +kernel⟩ rfl (by decide) (by decide) (Nat.le_of_ble_eq_true rfl) (kn_R (fun r11 s12 => ?_)) kx_R
      refine gc_onul (x := r11) (fun h_ => ?_) (fun a13 h_ => ?_)
      · subst h_
        refine gc_castN hG dX0_watcher_30 ?_
        refine gc_astore_n hG (Or.inl rfl) dX0_watcher_33 rfl (Nat.le_of_ble_eq_true rfl) (lv' := [(0, _), (1, _), (2, _), (3, _)]) rfl ?_
        refine gc_aload_n hG (v := .null) (Or.inl rfl) dX0_watcher_34 rfl rfl ?_
        refine gc_ifnonnullN hG (tgt := 43) dX0_watcher_35 (by decide) ?_
        refine gc_bipush hG (-2 : Int32) dX0_watcher_38 (by decide) ?_
        refine gc_goto hG (tgt := 47) dX0_watcher_40 (by decide) ?_
        exact gc_iret hC hrt rfl rfl dX0_watcher_47
      · subst h_
        refine gc_gd (fun hk => ?_)
        refine gc_castE hC hk (ci := 16) rfl q615 dX0_watcher_30 ?_
        refine gc_astore_n hG (refV_a _) dX0_watcher_33 rfl (Nat.le_of_ble_eq_true rfl) (lv' := [(0, _), (1, _), (2, _), (3, _)]) rfl ?_
        refine gc_aload_n hG (v := .ref a13) (refV_a _) dX0_watcher_34 rfl rfl ?_
        refine gc_ifnonnullY hG (tgt := 43) dX0_watcher_35 (by decide) ?_
        refine gc_aload_n hG (v := .ref a13) (refV_a _) dX0_watcher_43 rfl rfl ?_
        refine gc_gd (fun hk => ?_)
        refine gc_callV (f := fJ5_intValue a13 s12) (As := []) (rest := []) (n := 0) (d' := 1) (b := a13) hC hnL (wJ5_intValue (gLn X) Y hl hY a13 s12) hk (ci := 16) rfl dX0_watcher_44 q616 q276 q277 q89 q278 ⟨by decide +kernel, by decide +kernel⟩ rfl (by decide) (by decide) (Nat.le_of_ble_eq_true rfl) (kn_I (fun r14 s15 => ?_)) kx_I
        exact gc_iret hC hrt rfl rfl dX0_watcher_47
