/-! the component: walks, by program (gen/cgen.py) -/
def fX0_image (v0 : Nat) (t : cS) : Option (Int32 × cS) :=
  gd (cK t v0 = 1) (
  letv (cR t 1 v0) (fun x1 =>
  rv x1 (fun a2 =>
  gd (cK t a2 = 2) (
  ob (fX1_copy a2 t) (fun r3 s4 =>
  gd (cK s4 v0 = 1) (
  letv (sR s4 2 v0 r3) (fun s5 =>
  gd (cK s5 v0 = 1) (
  letv (cR s5 1 v0) (fun x6 =>
  rv x6 (fun a7 =>
  gd (cK s5 a7 = 2) (
  letv (cI s5 7 a7) (fun x8 =>
  (some (x8, s5))
  )
  )
  )
  )
  )
  )
  )
  )
  )
  )
  )
  )
theorem mfX0_image (v0 : Nat) (t : cS) : MO t (fX0_image v0 t) := by
  unfold fX0_image
  refine mo_gd ?_
  refine mo_letv (fun _ => ?_)
  refine mo_rv (fun _ => ?_)
  refine mo_gd ?_
  refine mo_ob (by apply mfX1_copy) (fun _ _ => ?_)
  refine mo_gd ?_
  refine mo_letS cMo_sR (fun _ => ?_)
  refine mo_gd ?_
  refine mo_letv (fun _ => ?_)
  refine mo_rv (fun _ => ?_)
  refine mo_gd ?_
  refine mo_letv (fun _ => ?_)
  exact mo_some
set_option maxHeartbeats 4000000 in
theorem wX0_image (l : Launch) (Y : cY) (hl : l.stackTraces = false) (hY : ∀ q, q < Y.2.2.2.2.size → ¬ Y.2.2.2.1 q) (v0 : Nat) (t : cS) : cFn l Y yX0_image (ws_ yX0_image cX0_image 1 (some .int)) 6 [.ref v0] t (fX0_image v0 t) rI := by
  refine cmet (av := [.ref v0]) (mfX0_image v0 t) hl hY (by decide +kernel) (lg_le (List.forall_mem_cons.mpr ⟨rfl, fun _ h => absurd h List.not_mem_nil⟩) (Nat.le_of_ble_eq_true rfl)) (lv_args_cat (List.forall_mem_cons.mpr ⟨rfl, fun _ h => absurd h List.not_mem_nil⟩)) ?_
  intro X ad0 hln hC hnL hrt hnm hT hmd
  subst hln
  have hG := hC.1
  rw [lv_args_s (List.forall_mem_cons.mpr ⟨rfl, fun _ h => absurd h List.not_mem_nil⟩)]
  show GC X Y (cM Y X 1 t ad0 rI) _ t 0 [(0, .ref v0)] []
  unfold fX0_image
  refine gc_aload_n hG (v := .ref v0) (refV_a _) dX0_image_0 rfl rfl ?_
  refine gc_aload_n hG (v := .ref v0) (refV_a _) dX0_image_1 rfl rfl ?_
  refine gc_gd (fun hk => ?_)
  refine gc_get hC (ci := 0) (j := 0) (v := vr (cR t 1 v0)) hk dX0_image_2 rfl (by decide) in_X0 q224 (fun _ h => h) rfl ?_
  refine gc_letr (fun x1 h_ => ?_)
  refine gc_rv (fun a2 h_ => ?_)
  subst h_
  refine gc_gd (fun hk => ?_)
  refine gc_callV (f := fX1_copy a2 t) (As := []) (rest := [.ref v0]) (n := 0) (d' := 5) (b := a2) hC hnL (wX1_copy (gLn X) Y hl hY a2 t) hk (ci := 1) rfl dX0_image_5 q1037 q1038 q1039 q75 q1040 ⟨by decide +kernel, by decide +kernel⟩ rfl (by decide) (by decide) (Nat.le_of_ble_eq_true rfl) (kn_R (fun r3 s4 => ?_)) kx_R
  refine gc_gd (fun hk => ?_)
  have pt := pt_R (s := s4) (f := 2) (a := v0) (x := r3) rfl
  refine gc_put hC tyX0 tyX0_ok nmX0 hk dX0_image_8 (ci := 0) (j := 1) (Or.inl (by decide)) rfl (by decide) in_X0 q225 (fun _ h => h) rfl (tyX0_ok 1 (by decide)) (nar_o r3) (fit_o r3) pt.1.1 pt.1.2.1 pt.1.2.2.1 pt.1.2.2.2 pt.2.1 pt.2.2.1 pt.2.2.2 ?_
  refine gc_letS (fun s5 => ?_)
  refine gc_aload_n hG (v := .ref v0) (refV_a _) dX0_image_11 rfl rfl ?_
  refine gc_gd (fun hk => ?_)
  refine gc_get hC (ci := 0) (j := 0) (v := vr (cR s5 1 v0)) hk dX0_image_12 rfl (by decide) in_X0 q224 (fun _ h => h) rfl ?_
  refine gc_letr (fun x6 h_ => ?_)
  refine gc_rv (fun a7 h_ => ?_)
  subst h_
  refine gc_gd (fun hk => ?_)
  refine gc_getN hC (ci := 1) (j := 1) (v := .int (cI s5 7 a7)) hk dX0_image_15 rfl (by decide) in_X1 q164 (fun _ h => h) rfl ?_
  refine gc_letv (fun x8 h_ => ?_)
  exact gc_iret hC hrt rfl rfl dX0_image_18
def fX0_back_L23 (v0 : Nat) (kx : cS → Option (Int32 × cS)) : Nat → Int32 → cS → Option (Int32 × cS)
  | 0, _, _ => none
  | k + 1, v1, t =>
    if v1 < (nI 6) then
      gd (cK t v0 = 1) (
      letv (cR t 5 v0) (fun x8 =>
      rv x8 (fun a9 =>
      gd (cK t a9 = 22 ∧ cIn t a9 v1) (
      letv (cR t (er (v1).toNatClampNeg) a9) (fun x10 =>
      onul x10 (
        jn (fun  (t12 : cS) =>
          letv (v1 + (nI 1)) (fun y14 =>
          fX0_back_L23 v0 kx k y14 t12
          )
          ) (fun (j13 : cS → Option (Int32 × cS)) =>
          if (nI 0) = 0 then
            j13 t
          else
            none
          )
      ) (fun a11 =>
        gd (cK t a11 = 16 ∨ cK t a11 = 20) (letv (if cK t a11 = 16 then (nI 1) else (nI 0)) (fun x15 =>
        jn (fun  (t16 : cS) =>
          letv (v1 + (nI 1)) (fun y18 =>
          fX0_back_L23 v0 kx k y18 t16
          )
          ) (fun (j17 : cS → Option (Int32 × cS)) =>
          if x15 = 0 then
            j17 t
          else
            gd (cK t a11 = 16) (
            gd (cK t a11 = 16) (
            letv (cI t 68 a11) (fun x19 =>
            gd (cK t v0 = 1) (
            ob (fX0_isActor v0 x19 t) (fun r20 s21 =>
            if r20 = 0 then
              gd (cK s21 v0 = 1) (
              letv (cR s21 5 v0) (fun x22 =>
              rv x22 (fun a23 =>
              gd (cK s21 a23 = 22 ∧ cIn s21 a23 v1) (
              letv (sR s21 (er (v1).toNatClampNeg) a23 none) (fun s24 =>
              j17 s24
              )
              )
              )
              )
              )
            else
              j17 s21
            )
            )
            )
            )
            )
          )
        ))
      )
      )
      )
      )
      )
      )
    else
      kx t
theorem mfX0_back_L23 (v0 : Nat) (kx : cS → Option (Int32 × cS)) (hkx : ∀  (t : cS), MO t (kx t)) : ∀ (k : Nat) (v1 : Int32) (t : cS), MO t (fX0_back_L23 v0 kx k v1 t) := by
  intro k
  induction k with
  | zero => intro v1 t; exact mo_none
  | succ k ih =>
    intro v1 t
    rw [fX0_back_L23]
    refine mo_ite ?_ ?_
    · refine mo_gd ?_
      refine mo_letv (fun _ => ?_)
      refine mo_rv (fun _ => ?_)
      refine mo_gd ?_
      refine mo_letv (fun _ => ?_)
      refine mo_onul ?_ (fun _ => ?_)
      · refine mo_jn (fun j_ => ∀ ( t12 : cS ), MO t12 (j_ t12)) (fun t12 => ?_) (fun j13 hj13 => ?_)
        · refine mo_letv (fun _ => ?_)
          exact ih _ _
        · refine mo_ite ?_ ?_
          · exact hj13 _
          · exact mo_none
      · refine mo_gd ?_
        refine mo_letv (fun _ => ?_)
        refine mo_jn (fun j_ => ∀ ( t16 : cS ), MO t16 (j_ t16)) (fun t16 => ?_) (fun j17 hj17 => ?_)
        · refine mo_letv (fun _ => ?_)
          exact ih _ _
        · refine mo_ite ?_ ?_
          · exact hj17 _
          · refine mo_gd ?_
            refine mo_gd ?_
            refine mo_letv (fun _ => ?_)
            refine mo_gd ?_
            refine mo_ob (by apply mfX0_isActor) (fun _ _ => ?_)
            refine mo_ite ?_ ?_
            · refine mo_gd ?_
              refine mo_letv (fun _ => ?_)
              refine mo_rv (fun _ => ?_)
              refine mo_gd ?_
              refine mo_letS cMo_sR (fun _ => ?_)
              exact hj17 _
            · exact hj17 _
    · exact hkx _
set_option maxHeartbeats 4000000 in
theorem gfX0_back_L23 {X : gCx} {Y : cY} {s0 : cS} {ad0 : Nat → Nat} (hC : cOk X Y RX0 cX0_back 6) (hl : (gLn X).stackTraces = false) (hY : ∀ q, q < Y.2.2.2.2.size → ¬ Y.2.2.2.1 q) (hnL : gLoc X = 4) (hrt : gRet X = (some .int)) (hnm : X.2.2.2.2.2.2.2.2.1.name = "back") (hT : gTab X = []) (hmd : (gSt X).methodNamed? yX0_back = some (gMe X)) (v0 : Nat) (kx : cS → Option (Int32 × cS)) (hkx : ∀  (t : cS), GC X Y (cM Y X 4 s0 ad0 rI) (kx t) t 72 [(0, .ref v0)] []) : ∀ (k : Nat) (v1 : Int32) (t : cS), GC X Y (cM Y X 4 s0 ad0 rI) (fX0_back_L23 v0 kx k v1 t) t 23 [(0, .ref v0), (1, .int v1)] [] := by
  have hG := hC.1
  intro k
  induction k with
  | zero => intro v1 t; exact gc_none
  | succ k ih =>
    intro v1 t
    rw [fX0_back_L23]
    refine gc_iload_n hG dX0_back_23 rfl rfl ?_
    refine gc_bipush hG (nI 6) dX0_back_24 (by decide) ?_
    refine gc_icmp_ge hG (tgt := 72) dX0_back_26 (by decide) ?_ ?_
    · refine gc_aload_n hG (v := .ref v0) (refV_a _) dX0_back_29 rfl rfl ?_
      refine gc_gd (fun hk => ?_)
      refine gc_get hC (ci := 0) (j := 4) (v := vr (cR t 5 v0)) hk dX0_back_30 rfl (by decide) in_X0 q228 (fun _ h => h) rfl ?_
      refine gc_letr (fun x8 h_ => ?_)
      refine gc_iload_n hG dX0_back_33 rfl rfl ?_
      refine gc_rv (fun a9 h_ => ?_)
      subst h_
      refine gc_gd (fun hk => ?_)
      refine gc_aald hC hk.1 (by decide) (by decide) (t0 := 2) rfl hk.2 dX0_back_34 ?_
      refine gc_letr (fun x10 h_ => ?_)
      refine gc_astore_n hG (refV_x _) dX0_back_35 rfl (Nat.le_of_ble_eq_true rfl) (lv' := [(0, _), (1, _), (3, _)]) rfl ?_
      refine gc_aload_n hG (v := vr x10) (refV_x _) dX0_back_36 rfl rfl ?_
      refine gc_onul (x := x10) (fun h_ => ?_) (fun a11 h_ => ?_)
      · subst h_
        refine gc_instN hG dX0_back_37 ?_
        refine gc_jn (fun j_ => ∀  (t12 : cS), GC X Y (cM Y X 4 s0 ad0 rI) (j_ t12) t12 66 [(0, .ref v0), (1, .int v1)] []) (fun t12 => ?_) (fun j13 hj13 => ?_)
        · refine gc_letiinc hG (c := (nI 1)) (lv' := fun y14 => [(0, .ref v0), (1, .int y14)]) dX0_back_66 rfl (by decide) (Nat.le_of_ble_eq_true rfl) (fun _ => rfl) (fun y14 => ?_)
          refine gc_goto hG (tgt := 23) dX0_back_69 (by decide) ?_
          exact ih y14 t12
        · refine gc_if_eq hG (tgt := 66) dX0_back_40 (by decide) ?_ ?_
          · refine gc_sub [0, 1] rfl ?_
            exact hj13 t
          · refine gc_aload_n hG (v := .null) (Or.inl rfl) dX0_back_43 rfl rfl ?_
            exact gc_none
      · subst h_
        refine gc_gd (fun hk => ?_)
        rcases hk with hk | hk
        · refine gc_instE hC hk (ci := 15) rfl q1224 dX0_back_37 ?_
          refine gc_letvE (by rw [if_pos hk]; rfl) (fun x15 h_ => ?_)
          refine gc_jn (fun j_ => ∀  (t16 : cS), GC X Y (cM Y X 4 s0 ad0 rI) (j_ t16) t16 66 [(0, .ref v0), (1, .int v1)] []) (fun t16 => ?_) (fun j17 hj17 => ?_)
          · refine gc_letiinc hG (c := (nI 1)) (lv' := fun y18 => [(0, .ref v0), (1, .int y18)]) dX0_back_66 rfl (by decide) (Nat.le_of_ble_eq_true rfl) (fun _ => rfl) (fun y18 => ?_)
            refine gc_goto hG (tgt := 23) dX0_back_69 (by decide) ?_
            exact ih y18 t16
          · refine gc_if_eq hG (tgt := 66) dX0_back_40 (by decide) ?_ ?_
            · refine gc_sub [0, 1] rfl ?_
              exact hj17 t
            · refine gc_aload_n hG (v := .ref a11) (refV_a _) dX0_back_43 rfl rfl ?_
              refine gc_gd (fun hk => ?_)
              refine gc_castE hC hk (ci := 15) rfl q1224 dX0_back_44 ?_
              refine gc_astore_n hG (refV_a _) dX0_back_47 rfl (Nat.le_of_ble_eq_true rfl) (lv' := [(0, _), (1, _), (2, _), (3, _)]) rfl ?_
              refine gc_aload_n hG (v := .ref v0) (refV_a _) dX0_back_48 rfl rfl ?_
              refine gc_aload_n hG (v := .ref a11) (refV_a _) dX0_back_49 rfl rfl ?_
              refine gc_gd (fun hk => ?_)
              refine gc_getN hC (ci := 15) (j := 0) (v := .int (cI t 68 a11)) hk dX0_back_50 rfl (by decide) in_X18 q1235 (fun _ h => h) rfl ?_
              refine gc_letv (fun x19 h_ => ?_)
              refine gc_gd (fun hk => ?_)
              refine gc_callV (f := fX0_isActor v0 x19 t) (As := [.int x19]) (rest := []) (n := 1) (d' := 1) (b := v0) hC hnL (wX0_isActor (gLn X) Y hl hY v0 x19 t) hk (ci := 0) rfl dX0_back_53 q366 q368 qs0 q74 q369 ⟨by decide +kernel, by decide +kernel⟩ rfl (by decide) (by decide) (Nat.le_of_ble_eq_true rfl) (kn_I (fun r20 s21 => ?_)) kx_I
              refine gc_if_ne hG (tgt := 66) dX0_back_56 (by decide) ?_ ?_
              · refine gc_aload_n hG (v := .ref v0) (refV_a _) dX0_back_59 rfl rfl ?_
                refine gc_gd (fun hk => ?_)
                refine gc_get hC (ci := 0) (j := 4) (v := vr (cR s21 5 v0)) hk dX0_back_60 rfl (by decide) in_X0 q228 (fun _ h => h) rfl ?_
                refine gc_letr (fun x22 h_ => ?_)
                refine gc_iload_n hG dX0_back_63 rfl rfl ?_
                refine gc_null hG dX0_back_64 ?_
                refine gc_rv (fun a23 h_ => ?_)
                subst h_
                refine gc_gd (fun hk => ?_)
                refine gc_astN hC hk.1 (by decide) (by decide) (t0 := 2) rfl hk.2 dX0_back_65 ?_
                refine gc_letS (fun s24 => ?_)
                refine gc_sub [0, 1] rfl ?_
                exact hj17 s24
              · refine gc_sub [0, 1] rfl ?_
                exact hj17 s21
        · refine gc_instNoI hC hk q1224 (by decide +kernel) dX0_back_37 ?_
          refine gc_letvE (by rw [if_neg (by rw [hk]; decide)]; rfl) (fun x15 h_ => ?_)
          refine gc_jn (fun j_ => ∀  (t16 : cS), GC X Y (cM Y X 4 s0 ad0 rI) (j_ t16) t16 66 [(0, .ref v0), (1, .int v1)] []) (fun t16 => ?_) (fun j17 hj17 => ?_)
          · refine gc_letiinc hG (c := (nI 1)) (lv' := fun y18 => [(0, .ref v0), (1, .int y18)]) dX0_back_66 rfl (by decide) (Nat.le_of_ble_eq_true rfl) (fun _ => rfl) (fun y18 => ?_)
            refine gc_goto hG (tgt := 23) dX0_back_69 (by decide) ?_
            exact ih y18 t16
          · refine gc_if_eq hG (tgt := 66) dX0_back_40 (by decide) ?_ ?_
            · refine gc_sub [0, 1] rfl ?_
              exact hj17 t
            · refine gc_aload_n hG (v := .ref a11) (refV_a _) dX0_back_43 rfl rfl ?_
              refine gc_gd (fun hk => ?_)
              refine gc_castE hC hk (ci := 15) rfl q1224 dX0_back_44 ?_
              refine gc_astore_n hG (refV_a _) dX0_back_47 rfl (Nat.le_of_ble_eq_true rfl) (lv' := [(0, _), (1, _), (2, _), (3, _)]) rfl ?_
              refine gc_aload_n hG (v := .ref v0) (refV_a _) dX0_back_48 rfl rfl ?_
              refine gc_aload_n hG (v := .ref a11) (refV_a _) dX0_back_49 rfl rfl ?_
              refine gc_gd (fun hk => ?_)
              refine gc_getN hC (ci := 15) (j := 0) (v := .int (cI t 68 a11)) hk dX0_back_50 rfl (by decide) in_X18 q1235 (fun _ h => h) rfl ?_
              refine gc_letv (fun x19 h_ => ?_)
              refine gc_gd (fun hk => ?_)
              refine gc_callV (f := fX0_isActor v0 x19 t) (As := [.int x19]) (rest := []) (n := 1) (d' := 1) (b := v0) hC hnL (wX0_isActor (gLn X) Y hl hY v0 x19 t) hk (ci := 0) rfl dX0_back_53 q366 q368 qs0 q74 q369 ⟨by decide +kernel, by decide +kernel⟩ rfl (by decide) (by decide) (Nat.le_of_ble_eq_true rfl) (kn_I (fun r20 s21 => ?_)) kx_I
              refine gc_if_ne hG (tgt := 66) dX0_back_56 (by decide) ?_ ?_
              · refine gc_aload_n hG (v := .ref v0) (refV_a _) dX0_back_59 rfl rfl ?_
                refine gc_gd (fun hk => ?_)
                refine gc_get hC (ci := 0) (j := 4) (v := vr (cR s21 5 v0)) hk dX0_back_60 rfl (by decide) in_X0 q228 (fun _ h => h) rfl ?_
                refine gc_letr (fun x22 h_ => ?_)
                refine gc_iload_n hG dX0_back_63 rfl rfl ?_
                refine gc_null hG dX0_back_64 ?_
                refine gc_rv (fun a23 h_ => ?_)
                subst h_
                refine gc_gd (fun hk => ?_)
                refine gc_astN hC hk.1 (by decide) (by decide) (t0 := 2) rfl hk.2 dX0_back_65 ?_
                refine gc_letS (fun s24 => ?_)
                refine gc_sub [0, 1] rfl ?_
                exact hj17 s24
              · refine gc_sub [0, 1] rfl ?_
                exact hj17 s21
    · refine gc_sub [0] rfl ?_
      exact hkx t
def fX0_back (v0 : Nat) (t : cS) : Option (Int32 × cS) :=
  gd (cK t v0 = 1) (
  letv (cR t 2 v0) (fun x1 =>
  onul x1 (
    (some ((-5 : Int32), t))
  ) (fun a2 =>
    gd (cK t v0 = 1) (
    letv (cR t 2 v0) (fun x3 =>
    rv x3 (fun a4 =>
    gd (cK t a4 = 2) (
    ob (fX1_copy a4 t) (fun r5 s6 =>
    gd (cK s6 v0 = 1) (
    letv (sR s6 1 v0 r5) (fun s7 =>
    fX0_back_L23 v0 (fun  (t25 : cS) =>
      gd (cK t25 v0 = 1) (
      letv (cR t25 1 v0) (fun x26 =>
      rv x26 (fun a27 =>
      gd (cK t25 a27 = 2) (
      letv (cI t25 7 a27) (fun x28 =>
      (some (x28, t25))
      )
      )
      )
      )
      )
      ) FU (nI 0) s7
    )
    )
    )
    )
    )
    )
    )
  )
  )
  )
theorem mfX0_back (v0 : Nat) (t : cS) : MO t (fX0_back v0 t) := by
  unfold fX0_back
  refine mo_gd ?_
  refine mo_letv (fun _ => ?_)
  refine mo_onul ?_ (fun _ => ?_)
  · exact mo_some
  · refine mo_gd ?_
    refine mo_letv (fun _ => ?_)
    refine mo_rv (fun _ => ?_)
    refine mo_gd ?_
    refine mo_ob (by apply mfX1_copy) (fun _ _ => ?_)
    refine mo_gd ?_
    refine mo_letS cMo_sR (fun _ => ?_)
    refine mfX0_back_L23 _ _ (fun _ => ?_) _ _ _
    refine mo_gd ?_
    refine mo_letv (fun _ => ?_)
    refine mo_rv (fun _ => ?_)
    refine mo_gd ?_
    refine mo_letv (fun _ => ?_)
    exact mo_some
set_option maxHeartbeats 4000000 in
theorem wX0_back (l : Launch) (Y : cY) (hl : l.stackTraces = false) (hY : ∀ q, q < Y.2.2.2.2.size → ¬ Y.2.2.2.1 q) (v0 : Nat) (t : cS) : cFn l Y yX0_back (ws_ yX0_back cX0_back 4 (some .int)) 6 [.ref v0] t (fX0_back v0 t) rI := by
  refine cmet (av := [.ref v0]) (mfX0_back v0 t) hl hY (by decide +kernel) (lg_le (List.forall_mem_cons.mpr ⟨rfl, fun _ h => absurd h List.not_mem_nil⟩) (Nat.le_of_ble_eq_true rfl)) (lv_args_cat (List.forall_mem_cons.mpr ⟨rfl, fun _ h => absurd h List.not_mem_nil⟩)) ?_
  intro X ad0 hln hC hnL hrt hnm hT hmd
  subst hln
  have hG := hC.1
  rw [lv_args_s (List.forall_mem_cons.mpr ⟨rfl, fun _ h => absurd h List.not_mem_nil⟩)]
  show GC X Y (cM Y X 4 t ad0 rI) _ t 0 [(0, .ref v0)] []
  unfold fX0_back
  refine gc_aload_n hG (v := .ref v0) (refV_a _) dX0_back_0 rfl rfl ?_
  refine gc_gd (fun hk => ?_)
  refine gc_get hC (ci := 0) (j := 1) (v := vr (cR t 2 v0)) hk dX0_back_1 rfl (by decide) in_X0 q225 (fun _ h => h) rfl ?_
  refine gc_letr (fun x1 h_ => ?_)
  refine gc_ifnonnull hG (tgt := 10) dX0_back_4 (by decide) (fun h_ => ?_) (fun a2 h_ => ?_)
  · subst h_
    refine gc_bipush hG (-5 : Int32) dX0_back_7 (by decide) ?_
    exact gc_iret hC hrt rfl rfl dX0_back_9
  · subst h_
    refine gc_aload_n hG (v := .ref v0) (refV_a _) dX0_back_10 rfl rfl ?_
    refine gc_aload_n hG (v := .ref v0) (refV_a _) dX0_back_11 rfl rfl ?_
    refine gc_gd (fun hk => ?_)
    refine gc_get hC (ci := 0) (j := 1) (v := vr (cR t 2 v0)) hk dX0_back_12 rfl (by decide) in_X0 q225 (fun _ h => h) rfl ?_
    refine gc_letr (fun x3 h_ => ?_)
    refine gc_rv (fun a4 h_ => ?_)
    subst h_
    refine gc_gd (fun hk => ?_)
    refine gc_callV (f := fX1_copy a4 t) (As := []) (rest := [.ref v0]) (n := 0) (d' := 5) (b := a4) hC hnL (wX1_copy (gLn X) Y hl hY a4 t) hk (ci := 1) rfl dX0_back_15 q1037 q1038 q1039 q75 q1040 ⟨by decide +kernel, by decide +kernel⟩ rfl (by decide) (by decide) (Nat.le_of_ble_eq_true rfl) (kn_R (fun r5 s6 => ?_)) kx_R
    refine gc_gd (fun hk => ?_)
    have pt := pt_R (s := s6) (f := 1) (a := v0) (x := r5) rfl
    refine gc_put hC tyX0 tyX0_ok nmX0 hk dX0_back_18 (ci := 0) (j := 0) (Or.inl (by decide)) rfl (by decide) in_X0 q224 (fun _ h => h) rfl (tyX0_ok 0 (by decide)) (nar_o r5) (fit_o r5) pt.1.1 pt.1.2.1 pt.1.2.2.1 pt.1.2.2.2 pt.2.1 pt.2.2.1 pt.2.2.2 ?_
    refine gc_letS (fun s7 => ?_)
    refine gc_iconst hG (nI 0) dX0_back_21 (by decide) ?_
    refine gc_istore_n hG dX0_back_22 rfl (Nat.le_of_ble_eq_true rfl) (lv' := [(0, _), (1, _)]) rfl ?_
    refine gfX0_back_L23 (s0 := t) (ad0 := ad0) hC hl hY hnL hrt hnm hT hmd v0 _ (fun t25 => ?_) FU (nI 0) s7
    refine gc_aload_n hG (v := .ref v0) (refV_a _) dX0_back_72 rfl rfl ?_
    refine gc_gd (fun hk => ?_)
    refine gc_get hC (ci := 0) (j := 0) (v := vr (cR t25 1 v0)) hk dX0_back_73 rfl (by decide) in_X0 q224 (fun _ h => h) rfl ?_
    refine gc_letr (fun x26 h_ => ?_)
    refine gc_rv (fun a27 h_ => ?_)
    subst h_
    refine gc_gd (fun hk => ?_)
    refine gc_getN hC (ci := 1) (j := 1) (v := .int (cI t25 7 a27)) hk dX0_back_76 rfl (by decide) in_X1 q164 (fun _ h => h) rfl ?_
    refine gc_letv (fun x28 h_ => ?_)
    exact gc_iret hC hrt rfl rfl dX0_back_79
def fX18_init (v0 : Nat) (v1 : Int32) (t : cS) : Option (Unit × cS) :=
  gd (cK t v0 = 16) (
  letv (sI t 68 v0 v1) (fun s1 =>
  (some ((), s1))
  )
  )
theorem mfX18_init (v0 : Nat) (v1 : Int32) (t : cS) : MO t (fX18_init v0 v1 t) := by
  unfold fX18_init
  refine mo_gd ?_
  refine mo_letS cMo_sI (fun _ => ?_)
  exact mo_some
set_option maxHeartbeats 4000000 in
theorem wX18_init (l : Launch) (Y : cY) (hl : l.stackTraces = false) (hY : ∀ q, q < Y.2.2.2.2.size → ¬ Y.2.2.2.1 q) (v0 : Nat) (v1 : Int32) (t : cS) : cFn l Y yX18_init (ws_ yX18_init cX18_init 2 none) 1 [.ref v0, .int v1] t (fX18_init v0 v1 t) rV := by
  refine cmet (av := [.ref v0, .int v1]) (mfX18_init v0 v1 t) hl hY (by decide +kernel) (lg_le (List.forall_mem_cons.mpr ⟨rfl, List.forall_mem_cons.mpr ⟨rfl, fun _ h => absurd h List.not_mem_nil⟩⟩) (Nat.le_of_ble_eq_true rfl)) (lv_args_cat (List.forall_mem_cons.mpr ⟨rfl, List.forall_mem_cons.mpr ⟨rfl, fun _ h => absurd h List.not_mem_nil⟩⟩)) ?_
  intro X ad0 hln hC hnL hrt hnm hT hmd
  subst hln
  have hG := hC.1
  rw [lv_args_s (List.forall_mem_cons.mpr ⟨rfl, List.forall_mem_cons.mpr ⟨rfl, fun _ h => absurd h List.not_mem_nil⟩⟩)]
  show GC X Y (cM Y X 2 t ad0 rV) _ t 0 [(0, .ref v0), (1, .int v1)] []
  unfold fX18_init
  refine gc_aload_n hG (v := .ref v0) (refV_a _) dX18_init_0 rfl rfl ?_
  refine gc_objInit hC hnL q1233 q113 q114 dX18_init_1 (Nat.le_of_ble_eq_true rfl) ?_
  refine gc_aload_n hG (v := .ref v0) (refV_a _) dX18_init_4 rfl rfl ?_
  refine gc_iload_n hG dX18_init_5 rfl rfl ?_
  refine gc_gd (fun hk => ?_)
  have pt := pt_I (s := t) (f := 68) (a := v0) (x := v1) rfl
  refine gc_putF hC tyX18 tyX18_ok nmX18 hk dX18_init_6 (ci := 15) (j := 0) (Or.inl (by decide)) rfl (by decide) in_X18 q1234 (fun _ h => h) rfl (by rw [hnm]; rfl) rfl (tyX18_ok 0 (by decide)) (fun _ => rfl) (fun _ => rfl) pt.1.1 pt.1.2.1 pt.1.2.2.1 pt.1.2.2.2 pt.2.1 pt.2.2.1 pt.2.2.2 ?_
  refine gc_letS (fun s1 => ?_)
  exact gc_vret hC hrt rfl dX18_init_9
def fX0_hold (v0 : Nat) (v1 : Int32) (v2 : Int32) (t : cS) : Option (Int32 × cS) :=
  jn (fun  (t1 : cS) =>
    gd (cK t1 v0 = 1) (
    letv (cR t1 5 v0) (fun x3 =>
    if v2 = (-1 : Int32) then
      rv x3 (fun a4 =>
      gd (cK t1 a4 = 22 ∧ cL t1 a4 < 2147483648) (
      if cIn t1 a4 v1 then
        letv (sR t1 (er (v1).toNatClampNeg) a4 none) (fun s5 =>
        (some ((nI 1), s5))
        )
      else
        letv (sX t1 3 222) (fun s6 =>
        (some ((-1 : Int32), s6))
        )
      )
      )
    else
      letv (sN t1 16 0 1) (fun s7 =>
      ob (fX18_init (cn t1) v2 s7) (fun r8 s9 =>
      rv x3 (fun a10 =>
      gd (cK s9 a10 = 22 ∧ cL s9 a10 < 2147483648) (
      if cIn s9 a10 v1 then
        gd (cK s9 (cn t1) = 16) (letv (sR s9 (er (v1).toNatClampNeg) a10 (some (cn t1))) (fun s11 =>
        (some ((nI 1), s11))
        ))
      else
        letv (sX s9 3 222) (fun s12 =>
        (some ((-1 : Int32), s12))
        )
      )
      )
      )
      )
    )
    )
    ) (fun (j2 : cS → Option (Int32 × cS)) =>
    if v2 = (-1 : Int32) then
      j2 t
    else
      gd (cK t v0 = 1) (
      ob (fX0_isActor v0 v2 t) (fun r13 s14 =>
      if r13 = 0 then
        (some ((-1 : Int32), s14))
      else
        j2 s14
      )
      )
    )
theorem mfX0_hold (v0 : Nat) (v1 : Int32) (v2 : Int32) (t : cS) : MO t (fX0_hold v0 v1 v2 t) := by
  unfold fX0_hold
  refine mo_jn (fun j_ => ∀ ( t1 : cS ), MO t1 (j_ t1)) (fun t1 => ?_) (fun j2 hj2 => ?_)
  · refine mo_gd ?_
    refine mo_letv (fun _ => ?_)
    refine mo_ite ?_ ?_
    · refine mo_rv (fun _ => ?_)
      refine mo_gd ?_
      refine mo_ite ?_ ?_
      · refine mo_letS cMo_sR (fun _ => ?_)
        exact mo_some
      · refine mo_letS cMo_sX (fun _ => ?_)
        exact mo_some
    · refine mo_letS cMo_sN (fun _ => ?_)
      refine mo_ob (by apply mfX18_init) (fun _ _ => ?_)
      refine mo_rv (fun _ => ?_)
      refine mo_gd ?_
      refine mo_ite ?_ ?_
      · refine mo_gd ?_
        refine mo_letS cMo_sR (fun _ => ?_)
        exact mo_some
      · refine mo_letS cMo_sX (fun _ => ?_)
        exact mo_some
  · refine mo_ite ?_ ?_
    · exact hj2 _
    · refine mo_gd ?_
      refine mo_ob (by apply mfX0_isActor) (fun _ _ => ?_)
      refine mo_ite ?_ ?_
      · exact mo_some
      · exact hj2 _
set_option maxHeartbeats 4000000 in
theorem wX0_hold (l : Launch) (Y : cY) (hl : l.stackTraces = false) (hY : ∀ q, q < Y.2.2.2.2.size → ¬ Y.2.2.2.1 q) (v0 : Nat) (v1 : Int32) (v2 : Int32) (t : cS) : cFn l Y yX0_hold (wsW_ yX0_hold cX0_hold 4 (some .int) [(15, 39, 40, 245)]) 2 [.ref v0, .int v1, .int v2] t (fX0_hold v0 v1 v2 t) rI := by
  refine cmetW (av := [.ref v0, .int v1, .int v2]) (mfX0_hold v0 v1 v2 t) hl hY (by decide +kernel) (lg_le (List.forall_mem_cons.mpr ⟨rfl, List.forall_mem_cons.mpr ⟨rfl, List.forall_mem_cons.mpr ⟨rfl, fun _ h => absurd h List.not_mem_nil⟩⟩⟩) (Nat.le_of_ble_eq_true rfl)) (lv_args_cat (List.forall_mem_cons.mpr ⟨rfl, List.forall_mem_cons.mpr ⟨rfl, List.forall_mem_cons.mpr ⟨rfl, fun _ h => absurd h List.not_mem_nil⟩⟩⟩)) ?_
  intro X ad0 hln hC hnL hrt hnm hT hmd
  subst hln
  have hG := hC.1
  rw [lv_args_s (List.forall_mem_cons.mpr ⟨rfl, List.forall_mem_cons.mpr ⟨rfl, List.forall_mem_cons.mpr ⟨rfl, fun _ h => absurd h List.not_mem_nil⟩⟩⟩)]
  show GC X Y (cM Y X 4 t ad0 rI) _ t 0 [(0, .ref v0), (1, .int v1), (2, .int v2)] []
  unfold fX0_hold
  refine gc_iload_n hG dX0_hold_0 rfl rfl ?_
  refine gc_iconst hG (-1 : Int32) dX0_hold_1 (by decide) ?_
  refine gc_jn (fun j_ => ∀  (t1 : cS), GC X Y (cM Y X 4 t ad0 rI) (j_ t1) t1 15 [(0, .ref v0), (1, .int v1), (2, .int v2)] []) (fun t1 => ?_) (fun j2 hj2 => ?_)
  · refine gc_aload_n hG (v := .ref v0) (refV_a _) dX0_hold_15 rfl rfl ?_
    refine gc_gd (fun hk => ?_)
    refine gc_get hC (ci := 0) (j := 4) (v := vr (cR t1 5 v0)) hk dX0_hold_16 rfl (by decide) in_X0 q228 (fun _ h => h) rfl ?_
    refine gc_letr (fun x3 h_ => ?_)
    refine gc_iload_n hG dX0_hold_19 rfl rfl ?_
    refine gc_iload_n hG dX0_hold_20 rfl rfl ?_
    refine gc_iconst hG (-1 : Int32) dX0_hold_21 (by decide) ?_
    refine gc_icmp_ne hG (tgt := 29) dX0_hold_22 (by decide) ?_ ?_
    · refine gc_null hG dX0_hold_25 ?_
      refine gc_goto hG (tgt := 37) dX0_hold_26 (by decide) ?_
      refine gc_rv (fun a4 h_ => ?_)
      subst h_
      refine gc_gd (fun hk => ?_)
      refine gc_ifp (fun hin => ?_) (fun hin => ?_)
      · refine gc_astN hC hk.1 (by decide) (by decide) (t0 := 2) rfl hin dX0_hold_37 ?_
        refine gc_letS (fun s5 => ?_)
        refine gc_iconst hG (nI 1) dX0_hold_38 (by decide) ?_
        exact gc_iret hC hrt rfl rfl dX0_hold_39
      · refine gc_aastX hC (ty := .object "java/lang/Object") (v := .null) (Or.inl rfl) hk.1 (by decide) (by decide) (t0 := 2) rfl hin hk.2 dX0_hold_37 (Nat.le_of_ble_eq_true rfl) ?_
        refine gn_catch hC hnL cVm_A (by decide) [] ((tableOf [(15, 39, 40, 245)])[0]) [] (by rw [hT]; rfl) (fun _ h => absurd h List.not_mem_nil) rfl (by decide) q1093 q859 rfl ?_
        refine gc_sub [] rfl ?_
        refine gn_letS (fun s6 => ?_)
        refine gc_astore_n hG (refV_a _) dX0_hold_40 rfl (Nat.le_of_ble_eq_true rfl) (lv' := [(3, _)]) rfl ?_
        refine gc_iconst hG (-1 : Int32) dX0_hold_41 (by decide) ?_
        exact gc_iret hC hrt rfl rfl dX0_hold_42
    · refine gc_new hC (ci := 15) tyX18 tyX18_ok rfl in_X18 dX0_hold_29 q1224 q1229 q105 (by decide +kernel) ?_
      refine gc_letS (fun s7 => ?_)
      refine gc_dup hG dX0_hold_32 rfl ?_
      refine gc_iload_n hG dX0_hold_33 rfl rfl ?_
      refine gc_callI (f := fX18_init (cn t1) v2 s7) (As := [.int v2]) (rest := [.ref (cn t1), .int v1, vr x3]) (n := 1) (d' := 1) (b := (cn t1)) hC hnL (wX18_init (gLn X) Y hl hY (cn t1) v2 s7) dX0_hold_34 q1230 q1231 q105 q1232 ⟨by decide +kernel, by decide +kernel⟩ rfl rfl (by decide) (by decide) (by simp [cat_vr, cat_r, cat_i, cat_n]) (kn_V (fun r8 s9 => ?_)) kx_V
      refine gc_rv (fun a10 h_ => ?_)
      subst h_
      refine gc_gd (fun hk => ?_)
      refine gc_ifp (fun hin => ?_) (fun hin => ?_)
      · refine gc_gd (fun hx => ?_)
        refine gc_astO hC hk.1 hx (ci := 15) rfl q1700 hin dX0_hold_37 ?_
        refine gc_letS (fun s11 => ?_)
        refine gc_iconst hG (nI 1) dX0_hold_38 (by decide) ?_
        exact gc_iret hC hrt rfl rfl dX0_hold_39
      · refine gc_aastX hC (ty := .object "java/lang/Object") (v := .ref (cn t1)) (refV_a _) hk.1 (by decide) (by decide) (t0 := 2) rfl hin hk.2 dX0_hold_37 (Nat.le_of_ble_eq_true rfl) ?_
        refine gn_catch hC hnL cVm_A (by decide) [] ((tableOf [(15, 39, 40, 245)])[0]) [] (by rw [hT]; rfl) (fun _ h => absurd h List.not_mem_nil) rfl (by decide) q1093 q859 rfl ?_
        refine gc_sub [] rfl ?_
        refine gn_letS (fun s12 => ?_)
        refine gc_astore_n hG (refV_a _) dX0_hold_40 rfl (Nat.le_of_ble_eq_true rfl) (lv' := [(3, _)]) rfl ?_
        refine gc_iconst hG (-1 : Int32) dX0_hold_41 (by decide) ?_
        exact gc_iret hC hrt rfl rfl dX0_hold_42
  · refine gc_icmp_eq hG (tgt := 15) dX0_hold_2 (by decide) ?_ ?_
    · exact hj2 t
    · refine gc_aload_n hG (v := .ref v0) (refV_a _) dX0_hold_5 rfl rfl ?_
      refine gc_iload_n hG dX0_hold_6 rfl rfl ?_
      refine gc_gd (fun hk => ?_)
      refine gc_callV (f := fX0_isActor v0 v2 t) (As := [.int v2]) (rest := []) (n := 1) (d' := 1) (b := v0) hC hnL (wX0_isActor (gLn X) Y hl hY v0 v2 t) hk (ci := 0) rfl dX0_hold_7 q366 q368 qs0 q74 q369 ⟨by decide +kernel, by decide +kernel⟩ rfl (by decide) (by decide) (Nat.le_of_ble_eq_true rfl) (kn_I (fun r13 s14 => ?_)) kx_I
      refine gc_if_ne hG (tgt := 15) dX0_hold_10 (by decide) ?_ ?_
      · refine gc_iconst hG (-1 : Int32) dX0_hold_13 (by decide) ?_
        exact gc_iret hC hrt rfl rfl dX0_hold_14
      · exact hj2 s14
def fX0_row (v0 : Nat) (v1 : Int32) (v2 : Int32) (t : cS) : Option (Int32 × cS) :=
  ob (fX0_within v1 (nI 0) (nI 5) t) (fun r1 s2 =>
  if r1 = 0 then
    (some ((-1 : Int32), s2))
  else
    if (nI 60) < v2 then
      (some ((-1 : Int32), s2))
    else
      gd (cK s2 v0 = 1) (
      letv (cR s2 5 v0) (fun x3 =>
      if v2 < 0 then
        letv (sX s2 3 54) (fun s7 =>
        (some ((-14 : Int32), s7))
        )
      else
        gd ((v2).toNatClampNeg ≤ 1000) (letv (sN s2 20 (v2).toNatClampNeg (v2).toNatClampNeg) (fun s4 =>
        rv x3 (fun a5 =>
        gd (cK s4 a5 = 22 ∧ cIn s4 a5 v1) (
        gd (cK s4 (cn s2) = 20) (letv (sR s4 (er (v1).toNatClampNeg) a5 (some (cn s2))) (fun s6 =>
        (some ((nI 1), s6))
        ))
        )
        )
        ))
      )
      )
  )
theorem mfX0_row (v0 : Nat) (v1 : Int32) (v2 : Int32) (t : cS) : MO t (fX0_row v0 v1 v2 t) := by
  unfold fX0_row
  refine mo_ob (by apply mfX0_within) (fun _ _ => ?_)
  refine mo_ite ?_ ?_
  · exact mo_some
  · refine mo_ite ?_ ?_
    · exact mo_some
    · refine mo_gd ?_
      refine mo_letv (fun _ => ?_)
      refine mo_ite ?_ ?_
      · refine mo_letS cMo_sX (fun _ => ?_)
        exact mo_some
      · refine mo_gd ?_
        refine mo_letS cMo_sN (fun _ => ?_)
        refine mo_rv (fun _ => ?_)
        refine mo_gd ?_
        refine mo_gd ?_
        refine mo_letS cMo_sR (fun _ => ?_)
        exact mo_some
set_option maxHeartbeats 4000000 in
theorem wX0_row (l : Launch) (Y : cY) (hl : l.stackTraces = false) (hY : ∀ q, q < Y.2.2.2.2.size → ¬ Y.2.2.2.1 q) (v0 : Nat) (v1 : Int32) (v2 : Int32) (t : cS) : cFn l Y yX0_row (wsW_ yX0_row cX0_row 4 (some .int) [(17, 27, 28, 286)]) 2 [.ref v0, .int v1, .int v2] t (fX0_row v0 v1 v2 t) rI := by
  refine cmetW (av := [.ref v0, .int v1, .int v2]) (mfX0_row v0 v1 v2 t) hl hY (by decide +kernel) (lg_le (List.forall_mem_cons.mpr ⟨rfl, List.forall_mem_cons.mpr ⟨rfl, List.forall_mem_cons.mpr ⟨rfl, fun _ h => absurd h List.not_mem_nil⟩⟩⟩) (Nat.le_of_ble_eq_true rfl)) (lv_args_cat (List.forall_mem_cons.mpr ⟨rfl, List.forall_mem_cons.mpr ⟨rfl, List.forall_mem_cons.mpr ⟨rfl, fun _ h => absurd h List.not_mem_nil⟩⟩⟩)) ?_
  intro X ad0 hln hC hnL hrt hnm hT hmd
  subst hln
  have hG := hC.1
  rw [lv_args_s (List.forall_mem_cons.mpr ⟨rfl, List.forall_mem_cons.mpr ⟨rfl, List.forall_mem_cons.mpr ⟨rfl, fun _ h => absurd h List.not_mem_nil⟩⟩⟩)]
  show GC X Y (cM Y X 4 t ad0 rI) _ t 0 [(0, .ref v0), (1, .int v1), (2, .int v2)] []
  unfold fX0_row
  refine gc_iload_n hG dX0_row_0 rfl rfl ?_
  refine gc_iconst hG (nI 0) dX0_row_1 (by decide) ?_
  refine gc_iconst hG (nI 5) dX0_row_2 (by decide) ?_
  refine gc_callS (f := fX0_within v1 (nI 0) (nI 5) t) (As := [.int v1, .int (nI 0), .int (nI 5)]) (rest := []) (n := 3) (d' := 1) hC hnL (wX0_within (gLn X) Y hl hY v1 (nI 0) (nI 5) t) dX0_row_3 q370 q250 q74 q251 ⟨by decide +kernel, by decide +kernel⟩ rfl (by decide) (by decide) (Nat.le_of_ble_eq_true rfl) (kn_I (fun r1 s2 => ?_)) kx_I
  refine gc_if_eq hG (tgt := 15) dX0_row_6 (by decide) ?_ ?_
  · refine gc_iconst hG (-1 : Int32) dX0_row_15 (by decide) ?_
    exact gc_iret hC hrt rfl rfl dX0_row_16
  · refine gc_iload_n hG dX0_row_9 rfl rfl ?_
    refine gc_bipush hG (nI 60) dX0_row_10 (by decide) ?_
    refine gc_icmp_le hG (tgt := 17) dX0_row_12 (by decide) ?_ ?_
    · refine gc_iconst hG (-1 : Int32) dX0_row_15 (by decide) ?_
      exact gc_iret hC hrt rfl rfl dX0_row_16
    · refine gc_aload_n hG (v := .ref v0) (refV_a _) dX0_row_17 rfl rfl ?_
      refine gc_gd (fun hk => ?_)
      refine gc_get hC (ci := 0) (j := 4) (v := vr (cR s2 5 v0)) hk dX0_row_18 rfl (by decide) in_X0 q228 (fun _ h => h) rfl ?_
      refine gc_letr (fun x3 h_ => ?_)
      refine gc_iload_n hG dX0_row_21 rfl rfl ?_
      refine gc_iload_n hG dX0_row_22 rfl rfl ?_
      refine gc_ifp (fun hz => ?_) (fun hz => ?_)
      · refine gc_newIX hC hz dX0_row_23 (by simp [cat_vr, cat_r, cat_i, cat_n]) ?_
        refine gn_catch hC hnL cVm_S (by decide) [] ((tableOf [(17, 27, 28, 286)])[0]) [] (by rw [hT]; rfl) (fun _ h => absurd h List.not_mem_nil) rfl (by decide) q1243 q1255 rfl ?_
        refine gc_sub [] rfl ?_
        refine gn_letS (fun s7 => ?_)
        refine gc_astore_n hG (refV_a _) dX0_row_28 rfl (Nat.le_of_ble_eq_true rfl) (lv' := [(3, _)]) rfl ?_
        refine gc_bipush hG (-14 : Int32) dX0_row_29 (by decide) ?_
        exact gc_iret hC hrt rfl rfl dX0_row_31
      · refine gc_gd (fun hk => ?_)
        refine gc_newI hC hz rfl (by omega) q157 dX0_row_23 ?_
        refine gc_letS (fun s4 => ?_)
        refine gc_rv (fun a5 h_ => ?_)
        subst h_
        refine gc_gd (fun hk => ?_)
        refine gc_gd (fun hx => ?_)
        refine gc_astOI hC hk.1 hx q1705 hk.2 dX0_row_25 ?_
        refine gc_letS (fun s6 => ?_)
        refine gc_iconst hG (nI 1) dX0_row_26 (by decide) ?_
        exact gc_iret hC hrt rfl rfl dX0_row_27
def fX0_put (v0 : Nat) (v1 : Int32) (v2 : Int32) (v3 : Int32) (t : cS) : Option (Int32 × cS) :=
  gd (cK t v0 = 1) (
  letv (cR t 5 v0) (fun x1 =>
  rv x1 (fun a2 =>
  gd (cK t a2 = 22 ∧ cL t a2 < 2147483648) (
  if cIn t a2 v1 then
    letv (cR t (er (v1).toNatClampNeg) a2) (fun x3 =>
    onul x3 (
      letv (sX t 1 8) (fun s5 =>
      (some ((-2000000000 : Int32), s5))
      )
    ) (fun a4 =>
      if cK t a4 = 20 then
        gd (cK t a4 = 20 ∧ cL t a4 < 2147483648) (
        if cIn t a4 v2 then
          letv (cI t (ei (v2).toNatClampNeg) a4) (fun x6 =>
          gd (cK t a4 = 20 ∧ cIn t a4 v2) (
          letv (sI t (ei (v2).toNatClampNeg) a4 v3) (fun s7 =>
          (some (x6, s7))
          )
          )
          )
        else
          letv (sX t 3 222) (fun s8 =>
          (some ((-2000000000 : Int32), s8))
          )
        )
      else
        gd (cK t a4 = 16) (
        letv (sX t 3 770) (fun s9 =>
        (some ((-2000000000 : Int32), s9))
        )
        )
    )
    )
  else
    letv (sX t 3 222) (fun s10 =>
    (some ((-2000000000 : Int32), s10))
    )
  )
  )
  )
  )
theorem mfX0_put (v0 : Nat) (v1 : Int32) (v2 : Int32) (v3 : Int32) (t : cS) : MO t (fX0_put v0 v1 v2 v3 t) := by
  unfold fX0_put
  refine mo_gd ?_
  refine mo_letv (fun _ => ?_)
  refine mo_rv (fun _ => ?_)
  refine mo_gd ?_
  refine mo_ite ?_ ?_
  · refine mo_letv (fun _ => ?_)
    refine mo_onul ?_ (fun _ => ?_)
    · refine mo_letS cMo_sX (fun _ => ?_)
      exact mo_some
    · refine mo_ite ?_ ?_
      · refine mo_gd ?_
        refine mo_ite ?_ ?_
        · refine mo_letv (fun _ => ?_)
          refine mo_gd ?_
          refine mo_letS cMo_sI (fun _ => ?_)
          exact mo_some
        · refine mo_letS cMo_sX (fun _ => ?_)
          exact mo_some
      · refine mo_gd ?_
        refine mo_letS cMo_sX (fun _ => ?_)
        exact mo_some
  · refine mo_letS cMo_sX (fun _ => ?_)
    exact mo_some
set_option maxHeartbeats 4000000 in
theorem wX0_put (l : Launch) (Y : cY) (hl : l.stackTraces = false) (hY : ∀ q, q < Y.2.2.2.2.size → ¬ Y.2.2.2.1 q) (v0 : Nat) (v1 : Int32) (v2 : Int32) (v3 : Int32) (t : cS) : cFn l Y yX0_put (wsW_ yX0_put cX0_put 6 (some .int) [(0, 24, 25, 245), (0, 24, 25, 133), (0, 24, 25, 275)]) 1 [.ref v0, .int v1, .int v2, .int v3] t (fX0_put v0 v1 v2 v3 t) rI := by
  refine cmetW (av := [.ref v0, .int v1, .int v2, .int v3]) (mfX0_put v0 v1 v2 v3 t) hl hY (by decide +kernel) (lg_le (List.forall_mem_cons.mpr ⟨rfl, List.forall_mem_cons.mpr ⟨rfl, List.forall_mem_cons.mpr ⟨rfl, List.forall_mem_cons.mpr ⟨rfl, fun _ h => absurd h List.not_mem_nil⟩⟩⟩⟩) (Nat.le_of_ble_eq_true rfl)) (lv_args_cat (List.forall_mem_cons.mpr ⟨rfl, List.forall_mem_cons.mpr ⟨rfl, List.forall_mem_cons.mpr ⟨rfl, List.forall_mem_cons.mpr ⟨rfl, fun _ h => absurd h List.not_mem_nil⟩⟩⟩⟩)) ?_
  intro X ad0 hln hC hnL hrt hnm hT hmd
  subst hln
  have hG := hC.1
  rw [lv_args_s (List.forall_mem_cons.mpr ⟨rfl, List.forall_mem_cons.mpr ⟨rfl, List.forall_mem_cons.mpr ⟨rfl, List.forall_mem_cons.mpr ⟨rfl, fun _ h => absurd h List.not_mem_nil⟩⟩⟩⟩)]
  show GC X Y (cM Y X 6 t ad0 rI) _ t 0 [(0, .ref v0), (1, .int v1), (2, .int v2), (3, .int v3)] []
  unfold fX0_put
  refine gc_aload_n hG (v := .ref v0) (refV_a _) dX0_put_0 rfl rfl ?_
  refine gc_gd (fun hk => ?_)
  refine gc_get hC (ci := 0) (j := 4) (v := vr (cR t 5 v0)) hk dX0_put_1 rfl (by decide) in_X0 q228 (fun _ h => h) rfl ?_
  refine gc_letr (fun x1 h_ => ?_)
  refine gc_iload_n hG dX0_put_4 rfl rfl ?_
  refine gc_rv (fun a2 h_ => ?_)
  subst h_
  refine gc_gd (fun hk => ?_)
  refine gc_ifp (fun hin => ?_) (fun hin => ?_)
  · refine gc_aald hC hk.1 (by decide) (by decide) (t0 := 2) rfl hin dX0_put_5 ?_
    refine gc_letr (fun x3 h_ => ?_)
    refine gc_onul (x := x3) (fun h_ => ?_) (fun a4 h_ => ?_)
    · subst h_
      refine gc_castN hG dX0_put_6 ?_
      refine gc_astore hG (Or.inl rfl) dX0_put_9 (Nat.le_of_ble_eq_true rfl) (lv' := [(0, _), (1, _), (2, _), (3, _), (4, _)]) rfl ?_
      refine gc_aload hG (v := .null) (Or.inl rfl) dX0_put_11 rfl ?_
      refine gc_iload_n hG dX0_put_13 rfl rfl ?_
      refine gc_ialdN hC dX0_put_14 (Nat.le_of_ble_eq_true rfl) ?_
      refine gnn_catch hC hnL [(tableOf [(0, 24, 25, 245), (0, 24, 25, 133), (0, 24, 25, 275)])[0]] ((tableOf [(0, 24, 25, 245), (0, 24, 25, 133), (0, 24, 25, 275)])[1]) [(tableOf [(0, 24, 25, 245), (0, 24, 25, 133), (0, 24, 25, 275)])[2]] (by rw [hT]; rfl) (List.forall_mem_cons.mpr ⟨Or.inr ⟨by decide, "java/lang/ArrayIndexOutOfBoundsException", q1093, by decide +kernel⟩, fun _ h => absurd h List.not_mem_nil⟩) rfl (by decide) q494 q564 rfl ?_
      refine gc_sub [] rfl ?_
      refine gn_letS (fun s5 => ?_)
      refine gc_astore hG (refV_a _) dX0_put_25 (Nat.le_of_ble_eq_true rfl) (lv' := [(4, _)]) rfl ?_
      refine gc_ldc hG (-2000000000 : Int32) dX0_put_27 q489 ?_
      exact gc_iret hC hrt rfl rfl dX0_put_29
    · subst h_
      refine gc_ifp (fun hk => ?_) (fun _ => ?_)
      · refine gc_castI hC hk q1211 dX0_put_6 ?_
        refine gc_astore hG (refV_a _) dX0_put_9 (Nat.le_of_ble_eq_true rfl) (lv' := [(0, _), (1, _), (2, _), (3, _), (4, _)]) rfl ?_
        refine gc_aload hG (v := .ref a4) (refV_a _) dX0_put_11 rfl ?_
        refine gc_iload_n hG dX0_put_13 rfl rfl ?_
        refine gc_gd (fun hk => ?_)
        refine gc_ifp (fun hin => ?_) (fun hin => ?_)
        · refine gc_iald hC hk.1 hin dX0_put_14 ?_
          refine gc_letv (fun x6 h_ => ?_)
          refine gc_istore hG dX0_put_15 (Nat.le_of_ble_eq_true rfl) (lv' := [(0, _), (1, _), (2, _), (3, _), (4, _), (5, _)]) rfl ?_
          refine gc_aload hG (v := .ref a4) (refV_a _) dX0_put_17 rfl ?_
          refine gc_iload_n hG dX0_put_19 rfl rfl ?_
          refine gc_iload_n hG dX0_put_20 rfl rfl ?_
          refine gc_gd (fun hk => ?_)
          refine gc_iast hC hk.1 hk.2 dX0_put_21 ?_
          refine gc_letS (fun s7 => ?_)
          refine gc_iload hG dX0_put_22 rfl ?_
          exact gc_iret hC hrt rfl rfl dX0_put_24
        · refine gc_ialdX hC hk.1 hin hk.2 dX0_put_14 (Nat.le_of_ble_eq_true rfl) ?_
          refine gn_catch hC hnL cVm_A (by decide) [] ((tableOf [(0, 24, 25, 245), (0, 24, 25, 133), (0, 24, 25, 275)])[0]) [(tableOf [(0, 24, 25, 245), (0, 24, 25, 133), (0, 24, 25, 275)])[1], (tableOf [(0, 24, 25, 245), (0, 24, 25, 133), (0, 24, 25, 275)])[2]] (by rw [hT]; rfl) (fun _ h => absurd h List.not_mem_nil) rfl (by decide) q1093 q859 rfl ?_
          refine gc_sub [] rfl ?_
          refine gn_letS (fun s8 => ?_)
          refine gc_astore hG (refV_a _) dX0_put_25 (Nat.le_of_ble_eq_true rfl) (lv' := [(4, _)]) rfl ?_
          refine gc_ldc hG (-2000000000 : Int32) dX0_put_27 q489 ?_
          exact gc_iret hC hrt rfl rfl dX0_put_29
      · refine gc_gd (fun hk => ?_)
        refine gc_castXS hC hk q1211 dX0_put_6 (Nat.le_of_ble_eq_true rfl) ?_
        refine gn_catch hC hnL cVm_C (by decide) [(tableOf [(0, 24, 25, 245), (0, 24, 25, 133), (0, 24, 25, 275)])[0], (tableOf [(0, 24, 25, 245), (0, 24, 25, 133), (0, 24, 25, 275)])[1]] ((tableOf [(0, 24, 25, 245), (0, 24, 25, 133), (0, 24, 25, 275)])[2]) [] (by rw [hT]; rfl) (List.forall_mem_cons.mpr ⟨Or.inr ⟨by decide, "java/lang/ArrayIndexOutOfBoundsException", q1093, by decide +kernel⟩, List.forall_mem_cons.mpr ⟨Or.inr ⟨by decide, "java/lang/NullPointerException", q494, by decide +kernel⟩, fun _ h => absurd h List.not_mem_nil⟩⟩) rfl (by decide) q1197 q1209 rfl ?_
        refine gc_sub [] rfl ?_
        refine gn_letS (fun s9 => ?_)
        refine gc_astore hG (refV_a _) dX0_put_25 (Nat.le_of_ble_eq_true rfl) (lv' := [(4, _)]) rfl ?_
        refine gc_ldc hG (-2000000000 : Int32) dX0_put_27 q489 ?_
        exact gc_iret hC hrt rfl rfl dX0_put_29
  · refine gc_aaldX hC (ty := .object "java/lang/Object") hk.1 (by decide) (by decide) (t0 := 2) rfl hin hk.2 dX0_put_5 (Nat.le_of_ble_eq_true rfl) ?_
    refine gn_catch hC hnL cVm_A (by decide) [] ((tableOf [(0, 24, 25, 245), (0, 24, 25, 133), (0, 24, 25, 275)])[0]) [(tableOf [(0, 24, 25, 245), (0, 24, 25, 133), (0, 24, 25, 275)])[1], (tableOf [(0, 24, 25, 245), (0, 24, 25, 133), (0, 24, 25, 275)])[2]] (by rw [hT]; rfl) (fun _ h => absurd h List.not_mem_nil) rfl (by decide) q1093 q859 rfl ?_
    refine gc_sub [] rfl ?_
    refine gn_letS (fun s10 => ?_)
    refine gc_astore hG (refV_a _) dX0_put_25 (Nat.le_of_ble_eq_true rfl) (lv' := [(4, _)]) rfl ?_
    refine gc_ldc hG (-2000000000 : Int32) dX0_put_27 q489 ?_
    exact gc_iret hC hrt rfl rfl dX0_put_29
def fX0_tells (v0 : Nat) (v1 : Int32) (v2 : Int32) (t : cS) : Option (Int32 × cS) :=
  ob (fX0_within v1 (nI 0) (nI 5) t) (fun r1 s2 =>
  if r1 = 0 then
    (some ((-2000000000 : Int32), s2))
  else
    ob (fX0_within v2 (nI 0) (nI 3) s2) (fun r3 s4 =>
    if r3 = 0 then
      (some ((-2000000000 : Int32), s4))
    else
      gd (cK s4 v0 = 1) (
      letv (cR s4 5 v0) (fun x5 =>
      rv x5 (fun a6 =>
      gd (cK s4 a6 = 22 ∧ cIn s4 a6 v1) (
      letv (cR s4 (er (v1).toNatClampNeg) a6) (fun x7 =>
      onul x7 (
        letv (sX s4 1 8) (fun s9 =>
        (some ((-2000000000 : Int32), s9))
        )
      ) (fun a8 =>
        if cK s4 a8 = 16 then
          gd (cK s4 a8 = 16) (
          letv (cI s4 68 a8) (fun x10 =>
          gd (cK s4 v0 = 1) (
          letv (cR s4 1 v0) (fun x11 =>
          rv x11 (fun a12 =>
          gd (cK s4 a12 = 2) (
          letv (cR s4 6 a12) (fun x13 =>
          rv x13 (fun a14 =>
          gd (cK s4 a14 = 23 ∧ cIn s4 a14 x10) (
          letv (cR s4 (er (x10).toNatClampNeg) a14) (fun x15 =>
          gd (cK s4 v0 = 1) (
          letv (cR s4 1 v0) (fun x16 =>
          rv x16 (fun a17 =>
          gd (cK s4 a17 = 2) (
          ob (fX1_childrenOf a17 x10 s4) (fun r18 s19 =>
          gsw v2 [
            ((nI 0), 
              (some (x10, s19))
            ),
            ((nI 1), 
              if r18 = 0 then
                rv x15 (fun a20 =>
                gd (cK s19 a20 = 5) (
                letv (cI s19 34 a20) (fun x21 =>
                (some (x21, s19))
                )
                )
                )
              else
                (some ((-2000000012 : Int32), s19))
            ),
            ((nI 2), 
              if r18 = 0 then
                (some ((-2000000012 : Int32), s19))
              else
                gd (cK s19 v0 = 1) (
                letv (cR s19 1 v0) (fun x22 =>
                rv x22 (fun a23 =>
                gd (cK s19 a23 = 2) (
                ob (fX1_liveOnes a23 s19) (fun r24 s25 =>
                ob (fJ5_bitCount (r18 &&& r24) s25) (fun r26 s27 =>
                (some (r26, s27))
                )
                )
                )
                )
                )
                )
            )
          ] (
            rv x15 (fun a28 =>
            gd (cK s19 a28 = 5) (
            letv (cI s19 33 a28) (fun x29 =>
            if x29 = 0 then
              (some ((-2000000012 : Int32), s19))
            else
              gd (cK s19 a28 = 5) (
              letv (cR s19 37 a28) (fun x30 =>
              rv x30 (fun a31 =>
              gd (cK s19 a31 = 3) (
              letv (cI s19 24 a31) (fun x32 =>
              if x32 = 0 then
                gd (cK s19 a28 = 5) (
                letv (cR s19 38 a28) (fun x33 =>
                rv x33 (fun a34 =>
                gd (cK s19 a34 = 3) (
                letv (cI s19 24 a34) (fun x35 =>
                (some (x35, s19))
                )
                )
                )
                )
                )
              else
                (some ((-2000000012 : Int32), s19))
              )
              )
              )
              )
              )
            )
            )
            )
          )
          )
          )
          )
          )
          )
          )
          )
          )
          )
          )
          )
          )
          )
          )
          )
        else
          gd (cK s4 a8 = 20) (
          letv (sX s4 3 770) (fun s36 =>
          (some ((-2000000012 : Int32), s36))
          )
          )
      )
      )
      )
      )
      )
      )
    )
  )
theorem mfX0_tells (v0 : Nat) (v1 : Int32) (v2 : Int32) (t : cS) : MO t (fX0_tells v0 v1 v2 t) := by
  unfold fX0_tells
  refine mo_ob (by apply mfX0_within) (fun _ _ => ?_)
  refine mo_ite ?_ ?_
  · exact mo_some
  · refine mo_ob (by apply mfX0_within) (fun _ _ => ?_)
    refine mo_ite ?_ ?_
    · exact mo_some
    · refine mo_gd ?_
      refine mo_letv (fun _ => ?_)
      refine mo_rv (fun _ => ?_)
      refine mo_gd ?_
      refine mo_letv (fun _ => ?_)
      refine mo_onul ?_ (fun _ => ?_)
      · refine mo_letS cMo_sX (fun _ => ?_)
        exact mo_some
      · refine mo_ite ?_ ?_
        · refine mo_gd ?_
          refine mo_letv (fun _ => ?_)
          refine mo_gd ?_
          refine mo_letv (fun _ => ?_)
          refine mo_rv (fun _ => ?_)
          refine mo_gd ?_
          refine mo_letv (fun _ => ?_)
          refine mo_rv (fun _ => ?_)
          refine mo_gd ?_
          refine mo_letv (fun _ => ?_)
          refine mo_gd ?_
          refine mo_letv (fun _ => ?_)
          refine mo_rv (fun _ => ?_)
          refine mo_gd ?_
          refine mo_ob (by apply mfX1_childrenOf) (fun _ _ => ?_)
          refine mo_sw (List.forall_mem_cons.mpr ⟨?_, List.forall_mem_cons.mpr ⟨?_, List.forall_mem_cons.mpr ⟨?_, fun _ h => absurd h List.not_mem_nil⟩⟩⟩) ?_
          · dsimp only
            exact mo_some
          · dsimp only
            refine mo_ite ?_ ?_
            · refine mo_rv (fun _ => ?_)
              refine mo_gd ?_
              refine mo_letv (fun _ => ?_)
              exact mo_some
            · exact mo_some
          · dsimp only
            refine mo_ite ?_ ?_
            · exact mo_some
            · refine mo_gd ?_
              refine mo_letv (fun _ => ?_)
              refine mo_rv (fun _ => ?_)
              refine mo_gd ?_
              refine mo_ob (by apply mfX1_liveOnes) (fun _ _ => ?_)
              refine mo_ob (by apply mfJ5_bitCount) (fun _ _ => ?_)
              exact mo_some
          · refine mo_rv (fun _ => ?_)
            refine mo_gd ?_
            refine mo_letv (fun _ => ?_)
            refine mo_ite ?_ ?_
            · exact mo_some
            · refine mo_gd ?_
              refine mo_letv (fun _ => ?_)
              refine mo_rv (fun _ => ?_)
              refine mo_gd ?_
              refine mo_letv (fun _ => ?_)
              refine mo_ite ?_ ?_
              · refine mo_gd ?_
                refine mo_letv (fun _ => ?_)
                refine mo_rv (fun _ => ?_)
                refine mo_gd ?_
                refine mo_letv (fun _ => ?_)
                exact mo_some
              · exact mo_some
        · refine mo_gd ?_
          refine mo_letS cMo_sX (fun _ => ?_)
          exact mo_some
set_option maxHeartbeats 4000000 in
theorem wX0_tells (l : Launch) (Y : cY) (hl : l.stackTraces = false) (hY : ∀ q, q < Y.2.2.2.2.size → ¬ Y.2.2.2.1 q) (v0 : Nat) (v1 : Int32) (v2 : Int32) (t : cS) : cFn l Y yX0_tells (wsW_ yX0_tells cX0_tells 6 (some .int) [(21, 85, 162, 133), (86, 102, 162, 133), (103, 127, 162, 133), (128, 161, 162, 133), (21, 85, 166, 275), (86, 102, 166, 275), (103, 127, 166, 275), (128, 161, 166, 275)]) 2 [.ref v0, .int v1, .int v2] t (fX0_tells v0 v1 v2 t) rI := by
  refine cmetW (av := [.ref v0, .int v1, .int v2]) (mfX0_tells v0 v1 v2 t) hl hY (by decide +kernel) (lg_le (List.forall_mem_cons.mpr ⟨rfl, List.forall_mem_cons.mpr ⟨rfl, List.forall_mem_cons.mpr ⟨rfl, fun _ h => absurd h List.not_mem_nil⟩⟩⟩) (Nat.le_of_ble_eq_true rfl)) (lv_args_cat (List.forall_mem_cons.mpr ⟨rfl, List.forall_mem_cons.mpr ⟨rfl, List.forall_mem_cons.mpr ⟨rfl, fun _ h => absurd h List.not_mem_nil⟩⟩⟩)) ?_
  intro X ad0 hln hC hnL hrt hnm hT hmd
  subst hln
  have hG := hC.1
  rw [lv_args_s (List.forall_mem_cons.mpr ⟨rfl, List.forall_mem_cons.mpr ⟨rfl, List.forall_mem_cons.mpr ⟨rfl, fun _ h => absurd h List.not_mem_nil⟩⟩⟩)]
  show GC X Y (cM Y X 6 t ad0 rI) _ t 0 [(0, .ref v0), (1, .int v1), (2, .int v2)] []
  unfold fX0_tells
  refine gc_iload_n hG dX0_tells_0 rfl rfl ?_
  refine gc_iconst hG (nI 0) dX0_tells_1 (by decide) ?_
  refine gc_iconst hG (nI 5) dX0_tells_2 (by decide) ?_
  refine gc_callS (f := fX0_within v1 (nI 0) (nI 5) t) (As := [.int v1, .int (nI 0), .int (nI 5)]) (rest := []) (n := 3) (d' := 1) hC hnL (wX0_within (gLn X) Y hl hY v1 (nI 0) (nI 5) t) dX0_tells_3 q370 q250 q74 q251 ⟨by decide +kernel, by decide +kernel⟩ rfl (by decide) (by decide) (Nat.le_of_ble_eq_true rfl) (kn_I (fun r1 s2 => ?_)) kx_I
  refine gc_if_eq hG (tgt := 18) dX0_tells_6 (by decide) ?_ ?_
  · refine gc_ldc hG (-2000000000 : Int32) dX0_tells_18 q489 ?_
    exact gc_iret hC hrt rfl rfl dX0_tells_20
  · refine gc_iload_n hG dX0_tells_9 rfl rfl ?_
    refine gc_iconst hG (nI 0) dX0_tells_10 (by decide) ?_
    refine gc_iconst hG (nI 3) dX0_tells_11 (by decide) ?_
    refine gc_callS (f := fX0_within v2 (nI 0) (nI 3) s2) (As := [.int v2, .int (nI 0), .int (nI 3)]) (rest := []) (n := 3) (d' := 1) hC hnL (wX0_within (gLn X) Y hl hY v2 (nI 0) (nI 3) s2) dX0_tells_12 q370 q250 q74 q251 ⟨by decide +kernel, by decide +kernel⟩ rfl (by decide) (by decide) (Nat.le_of_ble_eq_true rfl) (kn_I (fun r3 s4 => ?_)) kx_I
    refine gc_if_ne hG (tgt := 21) dX0_tells_15 (by decide) ?_ ?_
    · refine gc_ldc hG (-2000000000 : Int32) dX0_tells_18 q489 ?_
      exact gc_iret hC hrt rfl rfl dX0_tells_20
    · refine gc_aload_n hG (v := .ref v0) (refV_a _) dX0_tells_21 rfl rfl ?_
      refine gc_gd (fun hk => ?_)
      refine gc_get hC (ci := 0) (j := 4) (v := vr (cR s4 5 v0)) hk dX0_tells_22 rfl (by decide) in_X0 q228 (fun _ h => h) rfl ?_
      refine gc_letr (fun x5 h_ => ?_)
      refine gc_iload_n hG dX0_tells_25 rfl rfl ?_
      refine gc_rv (fun a6 h_ => ?_)
      subst h_
      refine gc_gd (fun hk => ?_)
      refine gc_aald hC hk.1 (by decide) (by decide) (t0 := 2) rfl hk.2 dX0_tells_26 ?_
      refine gc_letr (fun x7 h_ => ?_)
      refine gc_onul (x := x7) (fun h_ => ?_) (fun a8 h_ => ?_)
      · subst h_
        refine gc_castN hG dX0_tells_27 ?_
        refine gc_getXN hC (ci := 15) (j := 0) dX0_tells_30 rfl (by decide) in_X18 q1235 (fun _ h => h) (Nat.le_of_ble_eq_true rfl) ?_
        refine gnn_catch hC hnL [] ((tableOf [(21, 85, 162, 133), (86, 102, 162, 133), (103, 127, 162, 133), (128, 161, 162, 133), (21, 85, 166, 275), (86, 102, 166, 275), (103, 127, 166, 275), (128, 161, 166, 275)])[0]) [(tableOf [(21, 85, 162, 133), (86, 102, 162, 133), (103, 127, 162, 133), (128, 161, 162, 133), (21, 85, 166, 275), (86, 102, 166, 275), (103, 127, 166, 275), (128, 161, 166, 275)])[1], (tableOf [(21, 85, 162, 133), (86, 102, 162, 133), (103, 127, 162, 133), (128, 161, 162, 133), (21, 85, 166, 275), (86, 102, 166, 275), (103, 127, 166, 275), (128, 161, 166, 275)])[2], (tableOf [(21, 85, 162, 133), (86, 102, 162, 133), (103, 127, 162, 133), (128, 161, 162, 133), (21, 85, 166, 275), (86, 102, 166, 275), (103, 127, 166, 275), (128, 161, 166, 275)])[3], (tableOf [(21, 85, 162, 133), (86, 102, 162, 133), (103, 127, 162, 133), (128, 161, 162, 133), (21, 85, 166, 275), (86, 102, 166, 275), (103, 127, 166, 275), (128, 161, 166, 275)])[4], (tableOf [(21, 85, 162, 133), (86, 102, 162, 133), (103, 127, 162, 133), (128, 161, 162, 133), (21, 85, 166, 275), (86, 102, 166, 275), (103, 127, 166, 275), (128, 161, 166, 275)])[5], (tableOf [(21, 85, 162, 133), (86, 102, 162, 133), (103, 127, 162, 133), (128, 161, 162, 133), (21, 85, 166, 275), (86, 102, 166, 275), (103, 127, 166, 275), (128, 161, 166, 275)])[6], (tableOf [(21, 85, 162, 133), (86, 102, 162, 133), (103, 127, 162, 133), (128, 161, 162, 133), (21, 85, 166, 275), (86, 102, 166, 275), (103, 127, 166, 275), (128, 161, 166, 275)])[7]] (by rw [hT]; rfl) (fun _ h => absurd h List.not_mem_nil) rfl (by decide) q494 q564 rfl ?_
        refine gc_sub [] rfl ?_
        refine gn_letS (fun s9 => ?_)
        refine gc_astore_n hG (refV_a _) dX0_tells_162 rfl (Nat.le_of_ble_eq_true rfl) (lv' := [(3, _)]) rfl ?_
        refine gc_ldc hG (-2000000000 : Int32) dX0_tells_163 q489 ?_
        exact gc_iret hC hrt rfl rfl dX0_tells_165
      · subst h_
        refine gc_ifp (fun hk => ?_) (fun _ => ?_)
        · refine gc_castE hC hk (ci := 15) rfl q1224 dX0_tells_27 ?_
          refine gc_gd (fun hk => ?_)
          refine gc_getN hC (ci := 15) (j := 0) (v := .int (cI s4 68 a8)) hk dX0_tells_30 rfl (by decide) in_X18 q1235 (fun _ h => h) rfl ?_
          refine gc_letv (fun x10 h_ => ?_)
          refine gc_istore_n hG dX0_tells_33 rfl (Nat.le_of_ble_eq_true rfl) (lv' := [(0, _), (1, _), (2, _), (3, _)]) rfl ?_
          refine gc_aload_n hG (v := .ref v0) (refV_a _) dX0_tells_34 rfl rfl ?_
          refine gc_gd (fun hk => ?_)
          refine gc_get hC (ci := 0) (j := 0) (v := vr (cR s4 1 v0)) hk dX0_tells_35 rfl (by decide) in_X0 q224 (fun _ h => h) rfl ?_
          refine gc_letr (fun x11 h_ => ?_)
          refine gc_rv (fun a12 h_ => ?_)
          subst h_
          refine gc_gd (fun hk => ?_)
          refine gc_getN hC (ci := 1) (j := 0) (v := vr (cR s4 6 a12)) hk dX0_tells_38 rfl (by decide) in_X1 q160 (fun _ h => h) rfl ?_
          refine gc_letr (fun x13 h_ => ?_)
          refine gc_iload_n hG dX0_tells_41 rfl rfl ?_
          refine gc_rv (fun a14 h_ => ?_)
          subst h_
          refine gc_gd (fun hk => ?_)
          refine gc_aald hC hk.1 (by decide) (by decide) (t0 := 3) rfl hk.2 dX0_tells_42 ?_
          refine gc_letr (fun x15 h_ => ?_)
          refine gc_astore hG (refV_x _) dX0_tells_43 (Nat.le_of_ble_eq_true rfl) (lv' := [(0, _), (1, _), (2, _), (3, _), (4, _)]) rfl ?_
          refine gc_aload_n hG (v := .ref v0) (refV_a _) dX0_tells_45 rfl rfl ?_
          refine gc_gd (fun hk => ?_)
          refine gc_get hC (ci := 0) (j := 0) (v := vr (cR s4 1 v0)) hk dX0_tells_46 rfl (by decide) in_X0 q224 (fun _ h => h) rfl ?_
          refine gc_letr (fun x16 h_ => ?_)
          refine gc_iload_n hG dX0_tells_49 rfl rfl ?_
          refine gc_rv (fun a17 h_ => ?_)
          subst h_
          refine gc_gd (fun hk => ?_)
          refine gc_callV (f := fX1_childrenOf a17 x10 s4) (As := [.int x10]) (rest := []) (n := 1) (d' := 1) (b := a17) hC hnL (wX1_childrenOf (gLn X) Y hl hY a17 x10 s4) hk (ci := 1) rfl dX0_tells_50 q481 q482 q483 q75 q484 ⟨by decide +kernel, by decide +kernel⟩ rfl (by decide) (by decide) (Nat.le_of_ble_eq_true rfl) (kn_I (fun r18 s19 => ?_)) kx_I
          refine gc_istore hG dX0_tells_53 (Nat.le_of_ble_eq_true rfl) (lv' := [(0, _), (1, _), (2, _), (3, _), (4, _), (5, _)]) rfl ?_
          refine gc_iload_n hG dX0_tells_55 rfl rfl ?_
          refine gc_tsw hG (dt := 128) dX0_tells_56 (by decide) (by decide) ⟨⟨by decide, 84, by decide, ?_⟩, ⟨by decide, 86, by decide, ?_⟩, ⟨by decide, 103, by decide, ?_⟩, trivial⟩ ?_
          · refine gc_iload_n hG dX0_tells_84 rfl rfl ?_
            exact gc_iret hC hrt rfl rfl dX0_tells_85
          · refine gc_iload hG dX0_tells_86 rfl ?_
            refine gc_if_ne hG (tgt := 99) dX0_tells_88 (by decide) ?_ ?_
            · refine gc_aload hG (v := vr x15) (refV_x _) dX0_tells_91 rfl ?_
              refine gc_rv (fun a20 h_ => ?_)
              subst h_
              refine gc_gd (fun hk => ?_)
              refine gc_getN hC (ci := 4) (j := 8) (v := .int (cI s19 34 a20)) hk dX0_tells_93 rfl (by decide) in_X5 q305 (fun _ h => h) rfl ?_
              refine gc_letv (fun x21 h_ => ?_)
              refine gc_goto hG (tgt := 102) dX0_tells_96 (by decide) ?_
              exact gc_iret hC hrt rfl rfl dX0_tells_102
            · refine gc_ldcw hG (-2000000012 : Int32) dX0_tells_99 q1265 ?_
              exact gc_iret hC hrt rfl rfl dX0_tells_102
          · refine gc_iload hG dX0_tells_103 rfl ?_
            refine gc_if_ne hG (tgt := 114) dX0_tells_105 (by decide) ?_ ?_
            · refine gc_ldcw hG (-2000000012 : Int32) dX0_tells_108 q1265 ?_
              refine gc_goto hG (tgt := 127) dX0_tells_111 (by decide) ?_
              exact gc_iret hC hrt rfl rfl dX0_tells_127
            · refine gc_iload hG dX0_tells_114 rfl ?_
              refine gc_aload_n hG (v := .ref v0) (refV_a _) dX0_tells_116 rfl rfl ?_
              refine gc_gd (fun hk => ?_)
              refine gc_get hC (ci := 0) (j := 0) (v := vr (cR s19 1 v0)) hk dX0_tells_117 rfl (by decide) in_X0 q224 (fun _ h => h) rfl ?_
              refine gc_letr (fun x22 h_ => ?_)
              refine gc_rv (fun a23 h_ => ?_)
              subst h_
              refine gc_gd (fun hk => ?_)
              refine gc_callV (f := fX1_liveOnes a23 s19) (As := []) (rest := [.int r18]) (n := 0) (d' := 1) (b := a23) hC hnL (wX1_liveOnes (gLn X) Y hl hY a23 s19) hk (ci := 1) rfl dX0_tells_120 q626 q627 q628 q75 q629 ⟨by decide +kernel, by decide +kernel⟩ rfl (by decide) (by decide) (Nat.le_of_ble_eq_true rfl) (kn_I (fun r24 s25 => ?_)) kx_I
              refine gc_iand hG dX0_tells_123 ?_
              refine gc_callS (f := fJ5_bitCount (r18 &&& r24) s25) (As := [.int (r18 &&& r24)]) (rest := []) (n := 1) (d' := 1) hC hnL (wJ5_bitCount (gLn X) Y hl hY (r18 &&& r24) s25) dX0_tells_124 q630 q631 q89 q632 ⟨by decide +kernel, by decide +kernel⟩ rfl (by decide) (by decide) (Nat.le_of_ble_eq_true rfl) (kn_I (fun r26 s27 => ?_)) kx_I
              exact gc_iret hC hrt rfl rfl dX0_tells_127
          · refine gc_aload hG (v := vr x15) (refV_x _) dX0_tells_128 rfl ?_
            refine gc_rv (fun a28 h_ => ?_)
            subst h_
            refine gc_gd (fun hk => ?_)
            refine gc_getN hC (ci := 4) (j := 7) (v := .int (cI s19 33 a28)) hk dX0_tells_130 rfl (by decide) in_X5 q302 (fun _ h => h) rfl ?_
            refine gc_letv (fun x29 h_ => ?_)
            refine gc_if_eq hG (tgt := 158) dX0_tells_133 (by decide) ?_ ?_
            · refine gc_ldcw hG (-2000000012 : Int32) dX0_tells_158 q1265 ?_
              exact gc_iret hC hrt rfl rfl dX0_tells_161
            · refine gc_aload hG (v := .ref a28) (refV_a _) dX0_tells_136 rfl ?_
              refine gc_gd (fun hk => ?_)
              refine gc_getN hC (ci := 4) (j := 11) (v := vr (cR s19 37 a28)) hk dX0_tells_138 rfl (by decide) in_X5 q314 (fun _ h => h) rfl ?_
              refine gc_letr (fun x30 h_ => ?_)
              refine gc_rv (fun a31 h_ => ?_)
              subst h_
              refine gc_gd (fun hk => ?_)
              refine gc_getN hC (ci := 2) (j := 3) (v := .int (cI s19 24 a31)) hk dX0_tells_141 rfl (by decide) in_X2 q137 (fun _ h => h) rfl ?_
              refine gc_letv (fun x32 h_ => ?_)
              refine gc_if_ne hG (tgt := 158) dX0_tells_144 (by decide) ?_ ?_
              · refine gc_aload hG (v := .ref a28) (refV_a _) dX0_tells_147 rfl ?_
                refine gc_gd (fun hk => ?_)
                refine gc_getN hC (ci := 4) (j := 12) (v := vr (cR s19 38 a28)) hk dX0_tells_149 rfl (by decide) in_X5 q317 (fun _ h => h) rfl ?_
                refine gc_letr (fun x33 h_ => ?_)
                refine gc_rv (fun a34 h_ => ?_)
                subst h_
                refine gc_gd (fun hk => ?_)
                refine gc_getN hC (ci := 2) (j := 3) (v := .int (cI s19 24 a34)) hk dX0_tells_152 rfl (by decide) in_X2 q137 (fun _ h => h) rfl ?_
                refine gc_letv (fun x35 h_ => ?_)
                refine gc_goto hG (tgt := 161) dX0_tells_155 (by decide) ?_
                exact gc_iret hC hrt rfl rfl dX0_tells_161
              · refine gc_ldcw hG (-2000000012 : Int32) dX0_tells_158 q1265 ?_
                exact gc_iret hC hrt rfl rfl dX0_tells_161
        · refine gc_gd (fun hk => ?_)
          refine gc_castXI hC hk q1224 dX0_tells_27 (Nat.le_of_ble_eq_true rfl) ?_
          refine gn_catch hC hnL cVm_C (by decide) [(tableOf [(21, 85, 162, 133), (86, 102, 162, 133), (103, 127, 162, 133), (128, 161, 162, 133), (21, 85, 166, 275), (86, 102, 166, 275), (103, 127, 166, 275), (128, 161, 166, 275)])[0], (tableOf [(21, 85, 162, 133), (86, 102, 162, 133), (103, 127, 162, 133), (128, 161, 162, 133), (21, 85, 166, 275), (86, 102, 166, 275), (103, 127, 166, 275), (128, 161, 166, 275)])[1], (tableOf [(21, 85, 162, 133), (86, 102, 162, 133), (103, 127, 162, 133), (128, 161, 162, 133), (21, 85, 166, 275), (86, 102, 166, 275), (103, 127, 166, 275), (128, 161, 166, 275)])[2], (tableOf [(21, 85, 162, 133), (86, 102, 162, 133), (103, 127, 162, 133), (128, 161, 162, 133), (21, 85, 166, 275), (86, 102, 166, 275), (103, 127, 166, 275), (128, 161, 166, 275)])[3]] ((tableOf [(21, 85, 162, 133), (86, 102, 162, 133), (103, 127, 162, 133), (128, 161, 162, 133), (21, 85, 166, 275), (86, 102, 166, 275), (103, 127, 166, 275), (128, 161, 166, 275)])[4]) [(tableOf [(21, 85, 162, 133), (86, 102, 162, 133), (103, 127, 162, 133), (128, 161, 162, 133), (21, 85, 166, 275), (86, 102, 166, 275), (103, 127, 166, 275), (128, 161, 166, 275)])[5], (tableOf [(21, 85, 162, 133), (86, 102, 162, 133), (103, 127, 162, 133), (128, 161, 162, 133), (21, 85, 166, 275), (86, 102, 166, 275), (103, 127, 166, 275), (128, 161, 166, 275)])[6], (tableOf [(21, 85, 162, 133), (86, 102, 162, 133), (103, 127, 162, 133), (128, 161, 162, 133), (21, 85, 166, 275), (86, 102, 166, 275), (103, 127, 166, 275), (128, 161, 166, 275)])[7]] (by rw [hT]; rfl) (List.forall_mem_cons.mpr ⟨Or.inr ⟨by decide, "java/lang/NullPointerException", q494, by decide +kernel⟩, List.forall_mem_cons.mpr ⟨Or.inl (by decide), List.forall_mem_cons.mpr ⟨Or.inl (by decide), List.forall_mem_cons.mpr ⟨Or.inl (by decide), fun _ h => absurd h List.not_mem_nil⟩⟩⟩⟩) rfl (by decide) q1197 q1209 rfl ?_
          refine gc_sub [] rfl ?_
          refine gn_letS (fun s36 => ?_)
          refine gc_astore_n hG (refV_a _) dX0_tells_166 rfl (Nat.le_of_ble_eq_true rfl) (lv' := [(3, _)]) rfl ?_
          refine gc_ldcw hG (-2000000012 : Int32) dX0_tells_167 q1265 ?_
          exact gc_iret hC hrt rfl rfl dX0_tells_170
def fX11_deep : Nat → Nat → cS → Option (Int32 × cS)
  | 0, _, _ => none
  | n + 1, v0, t =>
    gd (cK t v0 = 10) (
    ob (fX11_below v0 t) (fun r1 s2 =>
    onul r1 (
      (some ((nI 1), s2))
    ) (fun a3 =>
      gd (cK s2 a3 = 10) (
      ob (fX11_deep n a3 s2) (fun r4 s5 =>
      (some ((((nI 1) + r4)), s5))
      )
      )
    )
    )
    )
theorem mfX11_deep : ∀ (n : Nat) (v0 : Nat) (t : cS), MO t (fX11_deep n v0 t) := by
  intro n
  induction n with
  | zero => intro v0 t; exact mo_none
  | succ n ih =>
    intro v0 t
    have hrec := ih
    rw [fX11_deep]
    refine mo_gd ?_
    refine mo_ob (by apply mfX11_below) (fun _ _ => ?_)
    refine mo_onul ?_ (fun _ => ?_)
    · exact mo_some
    · refine mo_gd ?_
      refine mo_ob (ih _ _) (fun _ _ => ?_)
      exact mo_some
set_option maxHeartbeats 4000000 in
theorem wX11_deep : ∀ (n : Nat) (l : Launch) (Y : cY) (hl : l.stackTraces = false) (hY : ∀ q, q < Y.2.2.2.2.size → ¬ Y.2.2.2.1 q) (v0 : Nat) (t : cS), cFn l Y yX11_deep (ws_ yX11_deep cX11_deep 2 (some .int)) (1 + n) [.ref v0] t (fX11_deep n v0 t) rI := by
  intro n
  induction n with
  | zero => intro l Y hl hY v0 t r s1 h; cases h
  | succ n ih =>
    intro l Y hl hY v0 t
    refine cmet (av := [.ref v0]) (mfX11_deep (n + 1) v0 t) hl hY (by decide +kernel) (lg_le (List.forall_mem_cons.mpr ⟨rfl, fun _ h => absurd h List.not_mem_nil⟩) (Nat.le_of_ble_eq_true rfl)) (lv_args_cat (List.forall_mem_cons.mpr ⟨rfl, fun _ h => absurd h List.not_mem_nil⟩)) ?_
    intro X ad0 hln hC hnL hrt hnm hT hmd
    subst hln
    have hG := hC.1
    have ihn := ih (gLn X) Y hl hY
    rw [lv_args_s (List.forall_mem_cons.mpr ⟨rfl, fun _ h => absurd h List.not_mem_nil⟩)]
    show GC X Y (cM Y X 2 t ad0 rI) _ t 0 [(0, .ref v0)] []
    rw [fX11_deep]
    refine gc_aload_n hG (v := .ref v0) (refV_a _) dX11_deep_0 rfl rfl ?_
    refine gc_gd (fun hk => ?_)
    refine gc_callV (f := fX11_below v0 t) (As := []) (rest := []) (n := 0) (d' := 1) (b := v0) hC hnL (wX11_below (gLn X) Y hl hY v0 t) hk (ci := 9) rfl dX11_deep_1 q1022 q1023 q1024 q91 q1025 ⟨by decide +kernel, by decide +kernel⟩ rfl (by omega) (by decide) (Nat.le_of_ble_eq_true rfl) (kn_R (fun r1 s2 => ?_)) kx_R
    refine gc_astore_n hG (refV_x _) dX11_deep_4 rfl (Nat.le_of_ble_eq_true rfl) (lv' := [(0, _), (1, _)]) rfl ?_
    refine gc_aload_n hG (v := vr r1) (refV_x _) dX11_deep_5 rfl rfl ?_
    refine gc_ifnonnull hG (tgt := 13) dX11_deep_6 (by decide) (fun h_ => ?_) (fun a3 h_ => ?_)
    · subst h_
      refine gc_iconst hG (nI 1) dX11_deep_9 (by decide) ?_
      refine gc_goto hG (tgt := 19) dX11_deep_10 (by decide) ?_
      exact gc_iret hC hrt rfl rfl dX11_deep_19
    · subst h_
      refine gc_iconst hG (nI 1) dX11_deep_13 (by decide) ?_
      refine gc_aload_n hG (v := .ref a3) (refV_a _) dX11_deep_14 rfl rfl ?_
      refine gc_gd (fun hk => ?_)
      refine gc_callV (f := fX11_deep n a3 s2) (As := []) (rest := [.int (nI 1)]) (n := 0) (d' := (1 + n)) (b := a3) hC hnL (ihn a3 s2) hk (ci := 9) rfl dX11_deep_15 q1278 q1275 q1276 q91 q1277 ⟨by decide +kernel, by decide +kernel⟩ rfl (by omega) (by decide) (Nat.le_of_ble_eq_true rfl) (kn_I (fun r4 s5 => ?_)) kx_I
      refine gc_iadd hG dX11_deep_18 ?_
      exact gc_iret hC hrt rfl rfl dX11_deep_19
def fX1_mails_L4 (v0 : Nat) (kx : Int32 → cS → Option (Int32 × cS)) : Nat → Int32 → Int32 → cS → Option (Int32 × cS)
  | 0, _, _, _ => none
  | k + 1, v1, v2, t =>
    gd (cK t v0 = 2) (
    letv (cI t 7 v0) (fun x1 =>
    if v2 < x1 then
      gd (cK t v0 = 2) (
      letv (cR t 6 v0) (fun x2 =>
      rv x2 (fun a3 =>
      gd (cK t a3 = 23 ∧ cIn t a3 v2) (
      letv (cR t (er (v2).toNatClampNeg) a3) (fun x4 =>
      rv x4 (fun a5 =>
      gd (cK t a5 = 5) (
      letv (cR t 37 a5) (fun x6 =>
      rv x6 (fun a7 =>
      gd (cK t a7 = 3) (
      letv (cI t 24 a7) (fun x8 =>
      letv ((v1 + x8)) (fun y9 =>
      letv (v2 + (nI 1)) (fun y10 =>
      fX1_mails_L4 v0 kx k y9 y10 t
      )
      )
      )
      )
      )
      )
      )
      )
      )
      )
      )
      )
      )
    else
      kx v1 t
    )
    )
theorem mfX1_mails_L4 (v0 : Nat) (kx : Int32 → cS → Option (Int32 × cS)) (hkx : ∀ (v1 : Int32) (t : cS), MO t (kx v1 t)) : ∀ (k : Nat) (v1 : Int32) (v2 : Int32) (t : cS), MO t (fX1_mails_L4 v0 kx k v1 v2 t) := by
  intro k
  induction k with
  | zero => intro v1 v2 t; exact mo_none
  | succ k ih =>
    intro v1 v2 t
    rw [fX1_mails_L4]
    refine mo_gd ?_
    refine mo_letv (fun _ => ?_)
    refine mo_ite ?_ ?_
    · refine mo_gd ?_
      refine mo_letv (fun _ => ?_)
      refine mo_rv (fun _ => ?_)
      refine mo_gd ?_
      refine mo_letv (fun _ => ?_)
      refine mo_rv (fun _ => ?_)
      refine mo_gd ?_
      refine mo_letv (fun _ => ?_)
      refine mo_rv (fun _ => ?_)
      refine mo_gd ?_
      refine mo_letv (fun _ => ?_)
      refine mo_letv (fun _ => ?_)
      refine mo_letv (fun _ => ?_)
      exact ih _ _ _
    · exact hkx _ _
set_option maxHeartbeats 4000000 in
theorem gfX1_mails_L4 {X : gCx} {Y : cY} {s0 : cS} {ad0 : Nat → Nat} (hC : cOk X Y RX1 cX1_mails 1) (hl : (gLn X).stackTraces = false) (hY : ∀ q, q < Y.2.2.2.2.size → ¬ Y.2.2.2.1 q) (hnL : gLoc X = 3) (hrt : gRet X = (some .int)) (hnm : X.2.2.2.2.2.2.2.2.1.name = "mails") (hT : gTab X = []) (hmd : (gSt X).methodNamed? yX1_mails = some (gMe X)) (v0 : Nat) (kx : Int32 → cS → Option (Int32 × cS)) (hkx : ∀ (v1 : Int32) (t : cS), GC X Y (cM Y X 3 s0 ad0 rI) (kx v1 t) t 33 [(1, .int v1)] []) : ∀ (k : Nat) (v1 : Int32) (v2 : Int32) (t : cS), GC X Y (cM Y X 3 s0 ad0 rI) (fX1_mails_L4 v0 kx k v1 v2 t) t 4 [(0, .ref v0), (1, .int v1), (2, .int v2)] [] := by
  have hG := hC.1
  intro k
  induction k with
  | zero => intro v1 v2 t; exact gc_none
  | succ k ih =>
    intro v1 v2 t
    rw [fX1_mails_L4]
    refine gc_iload_n hG dX1_mails_4 rfl rfl ?_
    refine gc_aload_n hG (v := .ref v0) (refV_a _) dX1_mails_5 rfl rfl ?_
    refine gc_gd (fun hk => ?_)
    refine gc_get hC (ci := 1) (j := 1) (v := .int (cI t 7 v0)) hk dX1_mails_6 rfl (by decide) in_X1 q162 (fun _ h => h) rfl ?_
    refine gc_letv (fun x1 h_ => ?_)
    refine gc_icmp_ge hG (tgt := 33) dX1_mails_9 (by decide) ?_ ?_
    · refine gc_iload_n hG dX1_mails_12 rfl rfl ?_
      refine gc_aload_n hG (v := .ref v0) (refV_a _) dX1_mails_13 rfl rfl ?_
      refine gc_gd (fun hk => ?_)
      refine gc_get hC (ci := 1) (j := 0) (v := vr (cR t 6 v0)) hk dX1_mails_14 rfl (by decide) in_X1 q158 (fun _ h => h) rfl ?_
      refine gc_letr (fun x2 h_ => ?_)
      refine gc_iload_n hG dX1_mails_17 rfl rfl ?_
      refine gc_rv (fun a3 h_ => ?_)
      subst h_
      refine gc_gd (fun hk => ?_)
      refine gc_aald hC hk.1 (by decide) (by decide) (t0 := 3) rfl hk.2 dX1_mails_18 ?_
      refine gc_letr (fun x4 h_ => ?_)
      refine gc_rv (fun a5 h_ => ?_)
      subst h_
      refine gc_gd (fun hk => ?_)
      refine gc_getN hC (ci := 4) (j := 11) (v := vr (cR t 37 a5)) hk dX1_mails_19 rfl (by decide) in_X5 q313 (fun _ h => h) rfl ?_
      refine gc_letr (fun x6 h_ => ?_)
      refine gc_rv (fun a7 h_ => ?_)
      subst h_
      refine gc_gd (fun hk => ?_)
      refine gc_getN hC (ci := 2) (j := 3) (v := .int (cI t 24 a7)) hk dX1_mails_22 rfl (by decide) in_X2 q135 (fun _ h => h) rfl ?_
      refine gc_letv (fun x8 h_ => ?_)
      refine gc_iadd hG dX1_mails_25 ?_
      refine gc_letv (fun y9 hy9 => ?_)
      refine gc_istore_n hG dX1_mails_26 rfl (Nat.le_of_ble_eq_true rfl) (lv' := [(0, _), (1, _), (2, _)]) rfl ?_
      refine gc_letiinc hG (c := (nI 1)) (lv' := fun y10 => [(0, .ref v0), (1, .int y9), (2, .int y10)]) dX1_mails_27 rfl (by decide) (Nat.le_of_ble_eq_true rfl) (fun _ => rfl) (fun y10 => ?_)
      refine gc_goto hG (tgt := 4) dX1_mails_30 (by decide) ?_
      exact ih y9 y10 t
    · refine gc_sub [1] rfl ?_
      exact hkx v1 t
def fX1_mails (v0 : Nat) (t : cS) : Option (Int32 × cS) :=
  fX1_mails_L4 v0 (fun (v1_11 : Int32) (t12 : cS) =>
    (some (v1_11, t12))
    ) FU (nI 0) (nI 0) t
theorem mfX1_mails (v0 : Nat) (t : cS) : MO t (fX1_mails v0 t) := by
  unfold fX1_mails
  refine mfX1_mails_L4 _ _ (fun _ _ => ?_) _ _ _ _
  exact mo_some
set_option maxHeartbeats 4000000 in
theorem wX1_mails (l : Launch) (Y : cY) (hl : l.stackTraces = false) (hY : ∀ q, q < Y.2.2.2.2.size → ¬ Y.2.2.2.1 q) (v0 : Nat) (t : cS) : cFn l Y yX1_mails (ws_ yX1_mails cX1_mails 3 (some .int)) 1 [.ref v0] t (fX1_mails v0 t) rI := by
  refine cmet (av := [.ref v0]) (mfX1_mails v0 t) hl hY (by decide +kernel) (lg_le (List.forall_mem_cons.mpr ⟨rfl, fun _ h => absurd h List.not_mem_nil⟩) (Nat.le_of_ble_eq_true rfl)) (lv_args_cat (List.forall_mem_cons.mpr ⟨rfl, fun _ h => absurd h List.not_mem_nil⟩)) ?_
  intro X ad0 hln hC hnL hrt hnm hT hmd
  subst hln
  have hG := hC.1
  rw [lv_args_s (List.forall_mem_cons.mpr ⟨rfl, fun _ h => absurd h List.not_mem_nil⟩)]
  show GC X Y (cM Y X 3 t ad0 rI) _ t 0 [(0, .ref v0)] []
  unfold fX1_mails
  refine gc_iconst hG (nI 0) dX1_mails_0 (by decide) ?_
  refine gc_istore_n hG dX1_mails_1 rfl (Nat.le_of_ble_eq_true rfl) (lv' := [(0, _), (1, _)]) rfl ?_
  refine gc_iconst hG (nI 0) dX1_mails_2 (by decide) ?_
  refine gc_istore_n hG dX1_mails_3 rfl (Nat.le_of_ble_eq_true rfl) (lv' := [(0, _), (1, _), (2, _)]) rfl ?_
  refine gfX1_mails_L4 (s0 := t) (ad0 := ad0) hC hl hY hnL hrt hnm hT hmd v0 _ (fun v1_11 t12 => ?_) FU (nI 0) (nI 0) t
  refine gc_iload_n hG dX1_mails_33 rfl rfl ?_
  exact gc_iret hC hrt rfl rfl dX1_mails_34
def fX0_count (v0 : Nat) (v1 : Int32) (t : cS) : Option (Int32 × cS) :=
  gsw v1 [
    ((nI 0), 
      gd (cK t v0 = 1) (
      letv (cR t 1 v0) (fun x1 =>
      rv x1 (fun a2 =>
      gd (cK t a2 = 2) (
      letv (cI t 7 a2) (fun x3 =>
      (some (x3, t))
      )
      )
      )
      )
      )
    ),
    ((nI 1), 
      gd (cK t v0 = 1) (
      letv (cR t 1 v0) (fun x4 =>
      rv x4 (fun a5 =>
      gd (cK t a5 = 2) (
      ob (fX1_liveOnes a5 t) (fun r6 s7 =>
      ob (fJ5_bitCount r6 s7) (fun r8 s9 =>
      (some (r8, s9))
      )
      )
      )
      )
      )
      )
    ),
    ((nI 2), 
      gd (cK t v0 = 1) (
      letv (cR t 1 v0) (fun x10 =>
      rv x10 (fun a11 =>
      gd (cK t a11 = 2) (
      ob (fX1_mails a11 t) (fun r12 s13 =>
      (some (r12, s13))
      )
      )
      )
      )
      )
    ),
    ((nI 3), 
      gd (cK t v0 = 1) (
      letv (cR t 1 v0) (fun x14 =>
      rv x14 (fun a15 =>
      gd (cK t a15 = 2) (
      letv (cR t 12 a15) (fun x16 =>
      rv x16 (fun a17 =>
      gd (cK t a17 = 3) (
      letv (cI t 24 a17) (fun x18 =>
      (some (x18, t))
      )
      )
      )
      )
      )
      )
      )
      )
    ),
    ((nI 4), 
      gd (cK t v0 = 1) (
      letv (cR t 1 v0) (fun x19 =>
      rv x19 (fun a20 =>
      gd (cK t a20 = 2) (
      letv (cI t 11 a20) (fun x21 =>
      (some (x21, t))
      )
      )
      )
      )
      )
    ),
    ((nI 5), 
      gd (cK t v0 = 1) (
      letv (cR t 1 v0) (fun x22 =>
      rv x22 (fun a23 =>
      gd (cK t a23 = 2) (
      letv (cI t 9 a23) (fun x24 =>
      (some (x24, t))
      )
      )
      )
      )
      )
    ),
    ((nI 6), 
      gd (cK t v0 = 1) (
      letv (cR t 1 v0) (fun x25 =>
      rv x25 (fun a26 =>
      gd (cK t a26 = 2) (
      letv (cI t 10 a26) (fun x27 =>
      (some (x27, t))
      )
      )
      )
      )
      )
    ),
    ((nI 7), 
      gd (cK t v0 = 1) (
      letv (cR t 1 v0) (fun x28 =>
      rv x28 (fun a29 =>
      gd (cK t a29 = 2) (
      letv (cR t 16 a29) (fun x30 =>
      onul x30 (
        (some ((nI 0), t))
      ) (fun a31 =>
        gd (cK t v0 = 1) (
        letv (cR t 1 v0) (fun x32 =>
        rv x32 (fun a33 =>
        gd (cK t a33 = 2) (
        letv (cR t 16 a33) (fun x34 =>
        rv x34 (fun a35 =>
        gd (cK t a35 = 10) (
        ob (fX11_deep 13 a35 t) (fun r36 s37 =>
        (some (r36, s37))
        )
        )
        )
        )
        )
        )
        )
        )
      )
      )
      )
      )
      )
      )
    ),
    ((nI 8), 
      gd (cK t v0 = 1) (
      ob (fX0_logs v0 t) (fun r38 s39 =>
      (some (r38, s39))
      )
      )
    ),
    ((nI 9), 
      gd (cK t v0 = 1) (
      letv (cI t 4 v0) (fun x40 =>
      (some (x40, t))
      )
      )
    )
  ] (
    (some ((-1 : Int32), t))
  )
theorem mfX0_count (v0 : Nat) (v1 : Int32) (t : cS) : MO t (fX0_count v0 v1 t) := by
  unfold fX0_count
  refine mo_sw (List.forall_mem_cons.mpr ⟨?_, List.forall_mem_cons.mpr ⟨?_, List.forall_mem_cons.mpr ⟨?_, List.forall_mem_cons.mpr ⟨?_, List.forall_mem_cons.mpr ⟨?_, List.forall_mem_cons.mpr ⟨?_, List.forall_mem_cons.mpr ⟨?_, List.forall_mem_cons.mpr ⟨?_, List.forall_mem_cons.mpr ⟨?_, List.forall_mem_cons.mpr ⟨?_, fun _ h => absurd h List.not_mem_nil⟩⟩⟩⟩⟩⟩⟩⟩⟩⟩) ?_
  · dsimp only
    refine mo_gd ?_
    refine mo_letv (fun _ => ?_)
    refine mo_rv (fun _ => ?_)
    refine mo_gd ?_
    refine mo_letv (fun _ => ?_)
    exact mo_some
  · dsimp only
    refine mo_gd ?_
    refine mo_letv (fun _ => ?_)
    refine mo_rv (fun _ => ?_)
    refine mo_gd ?_
    refine mo_ob (by apply mfX1_liveOnes) (fun _ _ => ?_)
    refine mo_ob (by apply mfJ5_bitCount) (fun _ _ => ?_)
    exact mo_some
  · dsimp only
    refine mo_gd ?_
    refine mo_letv (fun _ => ?_)
    refine mo_rv (fun _ => ?_)
    refine mo_gd ?_
    refine mo_ob (by apply mfX1_mails) (fun _ _ => ?_)
    exact mo_some
  · dsimp only
    refine mo_gd ?_
    refine mo_letv (fun _ => ?_)
    refine mo_rv (fun _ => ?_)
    refine mo_gd ?_
    refine mo_letv (fun _ => ?_)
    refine mo_rv (fun _ => ?_)
    refine mo_gd ?_
    refine mo_letv (fun _ => ?_)
    exact mo_some
  · dsimp only
    refine mo_gd ?_
    refine mo_letv (fun _ => ?_)
    refine mo_rv (fun _ => ?_)
    refine mo_gd ?_
    refine mo_letv (fun _ => ?_)
    exact mo_some
  · dsimp only
    refine mo_gd ?_
    refine mo_letv (fun _ => ?_)
    refine mo_rv (fun _ => ?_)
    refine mo_gd ?_
    refine mo_letv (fun _ => ?_)
    exact mo_some
  · dsimp only
    refine mo_gd ?_
    refine mo_letv (fun _ => ?_)
    refine mo_rv (fun _ => ?_)
    refine mo_gd ?_
    refine mo_letv (fun _ => ?_)
    exact mo_some
  · dsimp only
    refine mo_gd ?_
    refine mo_letv (fun _ => ?_)
    refine mo_rv (fun _ => ?_)
    refine mo_gd ?_
    refine mo_letv (fun _ => ?_)
    refine mo_onul ?_ (fun _ => ?_)
    · exact mo_some
    · refine mo_gd ?_
      refine mo_letv (fun _ => ?_)
      refine mo_rv (fun _ => ?_)
      refine mo_gd ?_
      refine mo_letv (fun _ => ?_)
      refine mo_rv (fun _ => ?_)
      refine mo_gd ?_
      refine mo_ob (by apply mfX11_deep) (fun _ _ => ?_)
      exact mo_some
  · dsimp only
    refine mo_gd ?_
    refine mo_ob (by apply mfX0_logs) (fun _ _ => ?_)
    exact mo_some
  · dsimp only
    refine mo_gd ?_
    refine mo_letv (fun _ => ?_)
    exact mo_some
  · exact mo_some
set_option maxHeartbeats 4000000 in
theorem wX0_count (l : Launch) (Y : cY) (hl : l.stackTraces = false) (hY : ∀ q, q < Y.2.2.2.2.size → ¬ Y.2.2.2.1 q) (v0 : Nat) (v1 : Int32) (t : cS) : cFn l Y yX0_count (ws_ yX0_count cX0_count 2 (some .int)) 15 [.ref v0, .int v1] t (fX0_count v0 v1 t) rI := by
  refine cmet (av := [.ref v0, .int v1]) (mfX0_count v0 v1 t) hl hY (by decide +kernel) (lg_le (List.forall_mem_cons.mpr ⟨rfl, List.forall_mem_cons.mpr ⟨rfl, fun _ h => absurd h List.not_mem_nil⟩⟩) (Nat.le_of_ble_eq_true rfl)) (lv_args_cat (List.forall_mem_cons.mpr ⟨rfl, List.forall_mem_cons.mpr ⟨rfl, fun _ h => absurd h List.not_mem_nil⟩⟩)) ?_
  intro X ad0 hln hC hnL hrt hnm hT hmd
  subst hln
  have hG := hC.1
  rw [lv_args_s (List.forall_mem_cons.mpr ⟨rfl, List.forall_mem_cons.mpr ⟨rfl, fun _ h => absurd h List.not_mem_nil⟩⟩)]
  show GC X Y (cM Y X 2 t ad0 rI) _ t 0 [(0, .ref v0), (1, .int v1)] []
  unfold fX0_count
  refine gc_iload_n hG dX0_count_0 rfl rfl ?_
  refine gc_tsw hG (dt := 153) dX0_count_1 (by decide) (by decide) ⟨⟨by decide, 56, by decide, ?_⟩, ⟨by decide, 64, by decide, ?_⟩, ⟨by decide, 75, by decide, ?_⟩, ⟨by decide, 83, by decide, ?_⟩, ⟨by decide, 94, by decide, ?_⟩, ⟨by decide, 102, by decide, ?_⟩, ⟨by decide, 110, by decide, ?_⟩, ⟨by decide, 118, by decide, ?_⟩, ⟨by decide, 143, by decide, ?_⟩, ⟨by decide, 148, by decide, ?_⟩, trivial⟩ ?_
  · refine gc_aload_n hG (v := .ref v0) (refV_a _) dX0_count_56 rfl rfl ?_
    refine gc_gd (fun hk => ?_)
    refine gc_get hC (ci := 0) (j := 0) (v := vr (cR t 1 v0)) hk dX0_count_57 rfl (by decide) in_X0 q224 (fun _ h => h) rfl ?_
    refine gc_letr (fun x1 h_ => ?_)
    refine gc_rv (fun a2 h_ => ?_)
    subst h_
    refine gc_gd (fun hk => ?_)
    refine gc_getN hC (ci := 1) (j := 1) (v := .int (cI t 7 a2)) hk dX0_count_60 rfl (by decide) in_X1 q164 (fun _ h => h) rfl ?_
    refine gc_letv (fun x3 h_ => ?_)
    exact gc_iret hC hrt rfl rfl dX0_count_63
  · refine gc_aload_n hG (v := .ref v0) (refV_a _) dX0_count_64 rfl rfl ?_
    refine gc_gd (fun hk => ?_)
    refine gc_get hC (ci := 0) (j := 0) (v := vr (cR t 1 v0)) hk dX0_count_65 rfl (by decide) in_X0 q224 (fun _ h => h) rfl ?_
    refine gc_letr (fun x4 h_ => ?_)
    refine gc_rv (fun a5 h_ => ?_)
    subst h_
    refine gc_gd (fun hk => ?_)
    refine gc_callV (f := fX1_liveOnes a5 t) (As := []) (rest := []) (n := 0) (d' := 1) (b := a5) hC hnL (wX1_liveOnes (gLn X) Y hl hY a5 t) hk (ci := 1) rfl dX0_count_68 q626 q627 q628 q75 q629 ⟨by decide +kernel, by decide +kernel⟩ rfl (by decide) (by decide) (Nat.le_of_ble_eq_true rfl) (kn_I (fun r6 s7 => ?_)) kx_I
    refine gc_callS (f := fJ5_bitCount r6 s7) (As := [.int r6]) (rest := []) (n := 1) (d' := 1) hC hnL (wJ5_bitCount (gLn X) Y hl hY r6 s7) dX0_count_71 q630 q631 q89 q632 ⟨by decide +kernel, by decide +kernel⟩ rfl (by decide) (by decide) (Nat.le_of_ble_eq_true rfl) (kn_I (fun r8 s9 => ?_)) kx_I
    exact gc_iret hC hrt rfl rfl dX0_count_74
  · refine gc_aload_n hG (v := .ref v0) (refV_a _) dX0_count_75 rfl rfl ?_
    refine gc_gd (fun hk => ?_)
    refine gc_get hC (ci := 0) (j := 0) (v := vr (cR t 1 v0)) hk dX0_count_76 rfl (by decide) in_X0 q224 (fun _ h => h) rfl ?_
    refine gc_letr (fun x10 h_ => ?_)
    refine gc_rv (fun a11 h_ => ?_)
    subst h_
    refine gc_gd (fun hk => ?_)
    refine gc_callV (f := fX1_mails a11 t) (As := []) (rest := []) (n := 0) (d' := 1) (b := a11) hC hnL (wX1_mails (gLn X) Y hl hY a11 t) hk (ci := 1) rfl dX0_count_79 q1270 q1271 q1272 q75 q1273 ⟨by decide +kernel, by decide +kernel⟩ rfl (by decide) (by decide) (Nat.le_of_ble_eq_true rfl) (kn_I (fun r12 s13 => ?_)) kx_I
    exact gc_iret hC hrt rfl rfl dX0_count_82
  · refine gc_aload_n hG (v := .ref v0) (refV_a _) dX0_count_83 rfl rfl ?_
    refine gc_gd (fun hk => ?_)
    refine gc_get hC (ci := 0) (j := 0) (v := vr (cR t 1 v0)) hk dX0_count_84 rfl (by decide) in_X0 q224 (fun _ h => h) rfl ?_
    refine gc_letr (fun x14 h_ => ?_)
    refine gc_rv (fun a15 h_ => ?_)
    subst h_
    refine gc_gd (fun hk => ?_)
    refine gc_getN hC (ci := 1) (j := 6) (v := vr (cR t 12 a15)) hk dX0_count_87 rfl (by decide) in_X1 q175 (fun _ h => h) rfl ?_
    refine gc_letr (fun x16 h_ => ?_)
    refine gc_rv (fun a17 h_ => ?_)
    subst h_
    refine gc_gd (fun hk => ?_)
    refine gc_getN hC (ci := 2) (j := 3) (v := .int (cI t 24 a17)) hk dX0_count_90 rfl (by decide) in_X2 q137 (fun _ h => h) rfl ?_
    refine gc_letv (fun x18 h_ => ?_)
    exact gc_iret hC hrt rfl rfl dX0_count_93
  · refine gc_aload_n hG (v := .ref v0) (refV_a _) dX0_count_94 rfl rfl ?_
    refine gc_gd (fun hk => ?_)
    refine gc_get hC (ci := 0) (j := 0) (v := vr (cR t 1 v0)) hk dX0_count_95 rfl (by decide) in_X0 q224 (fun _ h => h) rfl ?_
    refine gc_letr (fun x19 h_ => ?_)
    refine gc_rv (fun a20 h_ => ?_)
    subst h_
    refine gc_gd (fun hk => ?_)
    refine gc_getN hC (ci := 1) (j := 5) (v := .int (cI t 11 a20)) hk dX0_count_98 rfl (by decide) in_X1 q173 (fun _ h => h) rfl ?_
    refine gc_letv (fun x21 h_ => ?_)
    exact gc_iret hC hrt rfl rfl dX0_count_101
  · refine gc_aload_n hG (v := .ref v0) (refV_a _) dX0_count_102 rfl rfl ?_
    refine gc_gd (fun hk => ?_)
    refine gc_get hC (ci := 0) (j := 0) (v := vr (cR t 1 v0)) hk dX0_count_103 rfl (by decide) in_X0 q224 (fun _ h => h) rfl ?_
    refine gc_letr (fun x22 h_ => ?_)
    refine gc_rv (fun a23 h_ => ?_)
    subst h_
    refine gc_gd (fun hk => ?_)
    refine gc_getN hC (ci := 1) (j := 3) (v := .int (cI t 9 a23)) hk dX0_count_106 rfl (by decide) in_X1 q168 (fun _ h => h) rfl ?_
    refine gc_letv (fun x24 h_ => ?_)
    exact gc_iret hC hrt rfl rfl dX0_count_109
  · refine gc_aload_n hG (v := .ref v0) (refV_a _) dX0_count_110 rfl rfl ?_
    refine gc_gd (fun hk => ?_)
    refine gc_get hC (ci := 0) (j := 0) (v := vr (cR t 1 v0)) hk dX0_count_111 rfl (by decide) in_X0 q224 (fun _ h => h) rfl ?_
    refine gc_letr (fun x25 h_ => ?_)
    refine gc_rv (fun a26 h_ => ?_)
    subst h_
    refine gc_gd (fun hk => ?_)
    refine gc_getN hC (ci := 1) (j := 4) (v := .int (cI t 10 a26)) hk dX0_count_114 rfl (by decide) in_X1 q170 (fun _ h => h) rfl ?_
    refine gc_letv (fun x27 h_ => ?_)
    exact gc_iret hC hrt rfl rfl dX0_count_117
  · refine gc_aload_n hG (v := .ref v0) (refV_a _) dX0_count_118 rfl rfl ?_
    refine gc_gd (fun hk => ?_)
    refine gc_get hC (ci := 0) (j := 0) (v := vr (cR t 1 v0)) hk dX0_count_119 rfl (by decide) in_X0 q224 (fun _ h => h) rfl ?_
    refine gc_letr (fun x28 h_ => ?_)
    refine gc_rv (fun a29 h_ => ?_)
    subst h_
    refine gc_gd (fun hk => ?_)
    refine gc_getN hC (ci := 1) (j := 10) (v := vr (cR t 16 a29)) hk dX0_count_122 rfl (by decide) in_X1 q183 (fun _ h => h) rfl ?_
    refine gc_letr (fun x30 h_ => ?_)
    refine gc_ifnonnull hG (tgt := 132) dX0_count_125 (by decide) (fun h_ => ?_) (fun a31 h_ => ?_)
    · subst h_
      refine gc_iconst hG (nI 0) dX0_count_128 (by decide) ?_
      refine gc_goto hG (tgt := 142) dX0_count_129 (by decide) ?_
      exact gc_iret hC hrt rfl rfl dX0_count_142
    · subst h_
      refine gc_aload_n hG (v := .ref v0) (refV_a _) dX0_count_132 rfl rfl ?_
      refine gc_gd (fun hk => ?_)
      refine gc_get hC (ci := 0) (j := 0) (v := vr (cR t 1 v0)) hk dX0_count_133 rfl (by decide) in_X0 q224 (fun _ h => h) rfl ?_
      refine gc_letr (fun x32 h_ => ?_)
      refine gc_rv (fun a33 h_ => ?_)
      subst h_
      refine gc_gd (fun hk => ?_)
      refine gc_getN hC (ci := 1) (j := 10) (v := vr (cR t 16 a33)) hk dX0_count_136 rfl (by decide) in_X1 q183 (fun _ h => h) rfl ?_
      refine gc_letr (fun x34 h_ => ?_)
      refine gc_rv (fun a35 h_ => ?_)
      subst h_
      refine gc_gd (fun hk => ?_)
      refine gc_callV (f := fX11_deep 13 a35 t) (As := []) (rest := []) (n := 0) (d' := (1 + 13)) (b := a35) hC hnL (wX11_deep 13 (gLn X) Y hl hY a35 t) hk (ci := 9) rfl dX0_count_139 q1274 q1275 q1276 q91 q1277 ⟨by decide +kernel, by decide +kernel⟩ rfl (by decide) (by decide) (Nat.le_of_ble_eq_true rfl) (kn_I (fun r36 s37 => ?_)) kx_I
      exact gc_iret hC hrt rfl rfl dX0_count_142
  · refine gc_aload_n hG (v := .ref v0) (refV_a _) dX0_count_143 rfl rfl ?_
    refine gc_gd (fun hk => ?_)
    refine gc_callV (f := fX0_logs v0 t) (As := []) (rest := []) (n := 0) (d' := 1) (b := v0) hC hnL (wX0_logs (gLn X) Y hl hY v0 t) hk (ci := 0) rfl dX0_count_144 q1009 q1011 qs20 q74 q1012 ⟨by decide +kernel, by decide +kernel⟩ rfl (by decide) (by decide) (Nat.le_of_ble_eq_true rfl) (kn_I (fun r38 s39 => ?_)) kx_I
    exact gc_iret hC hrt rfl rfl dX0_count_147
  · refine gc_aload_n hG (v := .ref v0) (refV_a _) dX0_count_148 rfl rfl ?_
    refine gc_gd (fun hk => ?_)
    refine gc_get hC (ci := 0) (j := 3) (v := .int (cI t 4 v0)) hk dX0_count_149 rfl (by decide) in_X0 q227 (fun _ h => h) rfl ?_
    refine gc_letv (fun x40 h_ => ?_)
    exact gc_iret hC hrt rfl rfl dX0_count_152
  · refine gc_iconst hG (-1 : Int32) dX0_count_153 (by decide) ?_
    exact gc_iret hC hrt rfl rfl dX0_count_154
def fJ0_init_3 (v0 : Nat) (v1 : Option Nat) (t : cS) : Option (Unit × cS) :=
  gd (cK t v0 = 10 ∨ cK t v0 = 11 ∨ cK t v0 = 12 ∨ cK t v0 = 15) (
  letv (sR t 51 v0 (some v0)) (fun s1 =>
  letv (cR s1 52 299) (fun x2 =>
  gd (cK s1 v0 = 10 ∨ cK s1 v0 = 11 ∨ cK s1 v0 = 12 ∨ cK s1 v0 = 15) (
  letv (sR s1 52 v0 x2) (fun s3 =>
  letv (cR s3 53 299) (fun x4 =>
  gd (cK s3 v0 = 10 ∨ cK s3 v0 = 11 ∨ cK s3 v0 = 12 ∨ cK s3 v0 = 15) (
  letv (sR s3 53 v0 x4) (fun s5 =>
  gd (cR s5 52 v0 = cR s5 52 299 ∧ cR s5 55 v0 = none) (
  gd (cK s5 v0 = 10 ∨ cK s5 v0 = 11 ∨ cK s5 v0 = 12 ∨ cK s5 v0 = 15) (
  gd (cK s5 v0 = 10 ∨ cK s5 v0 = 11 ∨ cK s5 v0 = 12 ∨ cK s5 v0 = 15) (
  letv (sR s5 54 v0 v1) (fun s6 =>
  (some ((), s6))
  )
  )
  )
  )
  )
  )
  )
  )
  )
  )
  )
  )
theorem mfJ0_init_3 (v0 : Nat) (v1 : Option Nat) (t : cS) : MO t (fJ0_init_3 v0 v1 t) := by
  unfold fJ0_init_3
  refine mo_gd ?_
  refine mo_letS cMo_sR (fun _ => ?_)
  refine mo_letv (fun _ => ?_)
  refine mo_gd ?_
  refine mo_letS cMo_sR (fun _ => ?_)
  refine mo_letv (fun _ => ?_)
  refine mo_gd ?_
  refine mo_letS cMo_sR (fun _ => ?_)
  refine mo_gd ?_
  refine mo_gd ?_
  refine mo_gd ?_
  refine mo_letS cMo_sR (fun _ => ?_)
  exact mo_some
set_option maxHeartbeats 4000000 in
theorem wJ0_init_3 (l : Launch) (Y : cY) (hl : l.stackTraces = false) (hY : ∀ q, q < Y.2.2.2.2.size → ¬ Y.2.2.2.1 q) (v0 : Nat) (v1 : Option Nat) (t : cS) : cFn l Y yJ0_init_3 (ws_ yJ0_init_3 cJ0_init_3 2 none) 1 [.ref v0, vr v1] t (fJ0_init_3 v0 v1 t) rV := by
  refine cmet (av := [.ref v0, vr v1]) (mfJ0_init_3 v0 v1 t) hl hY (by decide +kernel) (lg_le (List.forall_mem_cons.mpr ⟨rfl, List.forall_mem_cons.mpr ⟨(cat_vr _), fun _ h => absurd h List.not_mem_nil⟩⟩) (Nat.le_of_ble_eq_true rfl)) (lv_args_cat (List.forall_mem_cons.mpr ⟨rfl, List.forall_mem_cons.mpr ⟨(cat_vr _), fun _ h => absurd h List.not_mem_nil⟩⟩)) ?_
  intro X ad0 hln hC hnL hrt hnm hT hmd
  subst hln
  have hG := hC.1
  rw [lv_args_s (List.forall_mem_cons.mpr ⟨rfl, List.forall_mem_cons.mpr ⟨(cat_vr _), fun _ h => absurd h List.not_mem_nil⟩⟩)]
  show GC X Y (cM Y X 2 t ad0 rV) _ t 0 [(0, .ref v0), (1, vr v1)] []
  unfold fJ0_init_3
  refine gc_aload_n hG (v := .ref v0) (refV_a _) dJ0_init_3_0 rfl rfl ?_
  refine gc_objInit hC hnL q507 q113 q114 dJ0_init_3_1 (Nat.le_of_ble_eq_true rfl) ?_
  refine gc_aload_n hG (v := .ref v0) (refV_a _) dJ0_init_3_4 rfl rfl ?_
  refine gc_aload_n hG (v := .ref v0) (refV_a _) dJ0_init_3_5 rfl rfl ?_
  refine gc_gd (fun hk => ?_)
  have pt := pt_R (s := t) (f := 51) (a := v0) (x := (some v0)) rfl
  refine gc_or4 hk (fun hk h_ => gc_put hC tyX11 tyX11_ok nmX11 hk dJ0_init_3_6 (ci := 9) (j := 0) (Or.inl (by decide)) rfl (by decide) in_X11 q545 (fun _ h => h) rfl (tyX11_ok 0 (by decide)) (nar_o (some v0)) (fit_o (some v0)) pt.1.1 pt.1.2.1 pt.1.2.2.1 pt.1.2.2.2 pt.2.1 pt.2.2.1 pt.2.2.2 h_) (fun hk h_ => gc_put hC tyX13 tyX13_ok nmX13 hk dJ0_init_3_6 (ci := 10) (j := 0) (Or.inl (by decide)) rfl (by decide) in_X13 q545 (fun _ h => h) rfl (tyX13_ok 0 (by decide)) (nar_o (some v0)) (fit_o (some v0)) pt.1.1 pt.1.2.1 pt.1.2.2.1 pt.1.2.2.2 pt.2.1 pt.2.2.1 pt.2.2.2 h_) (fun hk h_ => gc_put hC tyX14 tyX14_ok nmX14 hk dJ0_init_3_6 (ci := 11) (j := 0) (Or.inl (by decide)) rfl (by decide) in_X14 q545 (fun _ h => h) rfl (tyX14_ok 0 (by decide)) (nar_o (some v0)) (fit_o (some v0)) pt.1.1 pt.1.2.1 pt.1.2.2.1 pt.1.2.2.2 pt.2.1 pt.2.2.1 pt.2.2.2 h_) (fun hk h_ => gc_put hC tyX17 tyX17_ok nmX17 hk dJ0_init_3_6 (ci := 14) (j := 0) (Or.inl (by decide)) rfl (by decide) in_X17 q545 (fun _ h => h) rfl (tyX17_ok 0 (by decide)) (nar_o (some v0)) (fit_o (some v0)) pt.1.1 pt.1.2.1 pt.1.2.2.1 pt.1.2.2.2 pt.2.1 pt.2.2.1 pt.2.2.2 h_) ?_
  refine gc_letS (fun s1 => ?_)
  refine gc_aload_n hG (v := .ref v0) (refV_a _) dJ0_init_3_9 rfl rfl ?_
  refine gc_getUn hC q508 (fun _ h => h) dJ0_init_3_10 ?_
  refine gc_letr (fun x2 h_ => ?_)
  refine gc_gd (fun hk => ?_)
  have pt := pt_R (s := s1) (f := 52) (a := v0) (x := x2) rfl
  refine gc_or4 hk (fun hk h_ => gc_put hC tyX11 tyX11_ok nmX11 hk dJ0_init_3_13 (ci := 9) (j := 1) (Or.inl (by decide)) rfl (by decide) in_X11 q546 (fun _ h => h) rfl (tyX11_ok 1 (by decide)) (nar_a x2) (fit_a x2) pt.1.1 pt.1.2.1 pt.1.2.2.1 pt.1.2.2.2 pt.2.1 pt.2.2.1 pt.2.2.2 h_) (fun hk h_ => gc_put hC tyX13 tyX13_ok nmX13 hk dJ0_init_3_13 (ci := 10) (j := 1) (Or.inl (by decide)) rfl (by decide) in_X13 q546 (fun _ h => h) rfl (tyX13_ok 1 (by decide)) (nar_a x2) (fit_a x2) pt.1.1 pt.1.2.1 pt.1.2.2.1 pt.1.2.2.2 pt.2.1 pt.2.2.1 pt.2.2.2 h_) (fun hk h_ => gc_put hC tyX14 tyX14_ok nmX14 hk dJ0_init_3_13 (ci := 11) (j := 1) (Or.inl (by decide)) rfl (by decide) in_X14 q546 (fun _ h => h) rfl (tyX14_ok 1 (by decide)) (nar_a x2) (fit_a x2) pt.1.1 pt.1.2.1 pt.1.2.2.1 pt.1.2.2.2 pt.2.1 pt.2.2.1 pt.2.2.2 h_) (fun hk h_ => gc_put hC tyX17 tyX17_ok nmX17 hk dJ0_init_3_13 (ci := 14) (j := 1) (Or.inl (by decide)) rfl (by decide) in_X17 q546 (fun _ h => h) rfl (tyX17_ok 1 (by decide)) (nar_a x2) (fit_a x2) pt.1.1 pt.1.2.1 pt.1.2.2.1 pt.1.2.2.2 pt.2.1 pt.2.2.1 pt.2.2.2 h_) ?_
  refine gc_letS (fun s3 => ?_)
  refine gc_aload_n hG (v := .ref v0) (refV_a _) dJ0_init_3_16 rfl rfl ?_
  refine gc_getSu hC q510 (fun _ h => h) dJ0_init_3_17 ?_
  refine gc_letr (fun x4 h_ => ?_)
  refine gc_gd (fun hk => ?_)
  have pt := pt_R (s := s3) (f := 53) (a := v0) (x := x4) rfl
  refine gc_or4 hk (fun hk h_ => gc_put hC tyX11 tyX11_ok nmX11 hk dJ0_init_3_20 (ci := 9) (j := 2) (Or.inl (by decide)) rfl (by decide) in_X11 q547 (fun _ h => h) rfl (tyX11_ok 2 (by decide)) (nar_o x4) (fit_o x4) pt.1.1 pt.1.2.1 pt.1.2.2.1 pt.1.2.2.2 pt.2.1 pt.2.2.1 pt.2.2.2 h_) (fun hk h_ => gc_put hC tyX13 tyX13_ok nmX13 hk dJ0_init_3_20 (ci := 10) (j := 2) (Or.inl (by decide)) rfl (by decide) in_X13 q547 (fun _ h => h) rfl (tyX13_ok 2 (by decide)) (nar_o x4) (fit_o x4) pt.1.1 pt.1.2.1 pt.1.2.2.1 pt.1.2.2.2 pt.2.1 pt.2.2.1 pt.2.2.2 h_) (fun hk h_ => gc_put hC tyX14 tyX14_ok nmX14 hk dJ0_init_3_20 (ci := 11) (j := 2) (Or.inl (by decide)) rfl (by decide) in_X14 q547 (fun _ h => h) rfl (tyX14_ok 2 (by decide)) (nar_o x4) (fit_o x4) pt.1.1 pt.1.2.1 pt.1.2.2.1 pt.1.2.2.2 pt.2.1 pt.2.2.1 pt.2.2.2 h_) (fun hk h_ => gc_put hC tyX17 tyX17_ok nmX17 hk dJ0_init_3_20 (ci := 14) (j := 2) (Or.inl (by decide)) rfl (by decide) in_X17 q547 (fun _ h => h) rfl (tyX17_ok 2 (by decide)) (nar_o x4) (fit_o x4) pt.1.1 pt.1.2.1 pt.1.2.2.1 pt.1.2.2.2 pt.2.1 pt.2.2.1 pt.2.2.2 h_) ?_
  refine gc_letS (fun s5 => ?_)
  refine gc_aload_n hG (v := .ref v0) (refV_a _) dJ0_init_3_23 rfl rfl ?_
  refine gc_gd (fun hu => ?_)
  refine gc_gd (fun hk => ?_)
  refine gc_or4 hk (fun hk h_ => gc_fill hC hnL hk (ci := 9) (jS := 1) (jB := 4) rfl (by decide) (by decide) (by decide) rfl rfl in_X11 rfl rfl hu.1 hu.2 q515 q730 dJ0_init_3_24 (Nat.le_of_ble_eq_true rfl) h_) (fun hk h_ => gc_fill hC hnL hk (ci := 10) (jS := 1) (jB := 4) rfl (by decide) (by decide) (by decide) rfl rfl in_X13 rfl rfl hu.1 hu.2 q517 q792 dJ0_init_3_24 (Nat.le_of_ble_eq_true rfl) h_) (fun hk h_ => gc_fill hC hnL hk (ci := 11) (jS := 1) (jB := 4) rfl (by decide) (by decide) (by decide) rfl rfl in_X14 rfl rfl hu.1 hu.2 q516 q871 dJ0_init_3_24 (Nat.le_of_ble_eq_true rfl) h_) (fun hk h_ => gc_fill hC hnL hk (ci := 14) (jS := 1) (jB := 4) rfl (by decide) (by decide) (by decide) rfl rfl in_X17 rfl rfl hu.1 hu.2 q518 q1141 dJ0_init_3_24 (Nat.le_of_ble_eq_true rfl) h_) ?_
  refine gc_pop hG dJ0_init_3_27 rfl ?_
  refine gc_aload_n hG (v := .ref v0) (refV_a _) dJ0_init_3_28 rfl rfl ?_
  refine gc_aload_n hG (v := vr v1) (refV_x _) dJ0_init_3_29 rfl rfl ?_
  refine gc_gd (fun hk => ?_)
  have pt := pt_R (s := s5) (f := 54) (a := v0) (x := v1) rfl
  refine gc_or4 hk (fun hk h_ => gc_put hC tyX11 tyX11_ok nmX11 hk dJ0_init_3_30 (ci := 9) (j := 3) (Or.inl (by decide)) rfl (by decide) in_X11 q544 (fun _ h => h) rfl (tyX11_ok 3 (by decide)) (nar_o v1) (fit_o v1) pt.1.1 pt.1.2.1 pt.1.2.2.1 pt.1.2.2.2 pt.2.1 pt.2.2.1 pt.2.2.2 h_) (fun hk h_ => gc_put hC tyX13 tyX13_ok nmX13 hk dJ0_init_3_30 (ci := 10) (j := 3) (Or.inl (by decide)) rfl (by decide) in_X13 q544 (fun _ h => h) rfl (tyX13_ok 3 (by decide)) (nar_o v1) (fit_o v1) pt.1.1 pt.1.2.1 pt.1.2.2.1 pt.1.2.2.2 pt.2.1 pt.2.2.1 pt.2.2.2 h_) (fun hk h_ => gc_put hC tyX14 tyX14_ok nmX14 hk dJ0_init_3_30 (ci := 11) (j := 3) (Or.inl (by decide)) rfl (by decide) in_X14 q544 (fun _ h => h) rfl (tyX14_ok 3 (by decide)) (nar_o v1) (fit_o v1) pt.1.1 pt.1.2.1 pt.1.2.2.1 pt.1.2.2.2 pt.2.1 pt.2.2.1 pt.2.2.2 h_) (fun hk h_ => gc_put hC tyX17 tyX17_ok nmX17 hk dJ0_init_3_30 (ci := 14) (j := 3) (Or.inl (by decide)) rfl (by decide) in_X17 q544 (fun _ h => h) rfl (tyX17_ok 3 (by decide)) (nar_o v1) (fit_o v1) pt.1.1 pt.1.2.1 pt.1.2.2.1 pt.1.2.2.2 pt.2.1 pt.2.2.1 pt.2.2.2 h_) ?_
  refine gc_letS (fun s6 => ?_)
  exact gc_vret hC hrt rfl dJ0_init_3_33
def fJ1_init_3 (v0 : Nat) (v1 : Option Nat) (t : cS) : Option (Unit × cS) :=
  ob (fJ0_init_3 v0 v1 t) (fun r1 s2 =>
  (some ((), s2))
  )
theorem mfJ1_init_3 (v0 : Nat) (v1 : Option Nat) (t : cS) : MO t (fJ1_init_3 v0 v1 t) := by
  unfold fJ1_init_3
  refine mo_ob (by apply mfJ0_init_3) (fun _ _ => ?_)
  exact mo_some
set_option maxHeartbeats 4000000 in
theorem wJ1_init_3 (l : Launch) (Y : cY) (hl : l.stackTraces = false) (hY : ∀ q, q < Y.2.2.2.2.size → ¬ Y.2.2.2.1 q) (v0 : Nat) (v1 : Option Nat) (t : cS) : cFn l Y yJ1_init_3 (ws_ yJ1_init_3 cJ1_init_3 2 none) 2 [.ref v0, vr v1] t (fJ1_init_3 v0 v1 t) rV := by
  refine cmet (av := [.ref v0, vr v1]) (mfJ1_init_3 v0 v1 t) hl hY (by decide +kernel) (lg_le (List.forall_mem_cons.mpr ⟨rfl, List.forall_mem_cons.mpr ⟨(cat_vr _), fun _ h => absurd h List.not_mem_nil⟩⟩) (Nat.le_of_ble_eq_true rfl)) (lv_args_cat (List.forall_mem_cons.mpr ⟨rfl, List.forall_mem_cons.mpr ⟨(cat_vr _), fun _ h => absurd h List.not_mem_nil⟩⟩)) ?_
  intro X ad0 hln hC hnL hrt hnm hT hmd
  subst hln
  have hG := hC.1
  rw [lv_args_s (List.forall_mem_cons.mpr ⟨rfl, List.forall_mem_cons.mpr ⟨(cat_vr _), fun _ h => absurd h List.not_mem_nil⟩⟩)]
  show GC X Y (cM Y X 2 t ad0 rV) _ t 0 [(0, .ref v0), (1, vr v1)] []
  unfold fJ1_init_3
  refine gc_aload_n hG (v := .ref v0) (refV_a _) dJ1_init_3_0 rfl rfl ?_
  refine gc_aload_n hG (v := vr v1) (refV_x _) dJ1_init_3_1 rfl rfl ?_
  refine gc_callI (f := fJ0_init_3 v0 v1 t) (As := [vr v1]) (rest := []) (n := 1) (d' := 1) (b := v0) hC hnL (wJ0_init_3 (gLn X) Y hl hY v0 v1 t) dJ1_init_3_2 q849 q850 q84 q851 ⟨by decide +kernel, by decide +kernel⟩ rfl rfl (by decide) (by decide) (Nat.le_of_ble_eq_true rfl) (kn_V (fun r1 s2 => ?_)) kx_V
  exact gc_vret hC hrt rfl dJ1_init_3_5
