/-! the component: walks, by program (gen/cgen.py) -/
def fX0_would (v0 : Nat) (v1 : Int32) (v2 : Int32) (v3 : Int32) (t : cS) : Option (Int32 × cS) :=
  gd (cK t v0 = 1) (
  ob (fX0_isLive v0 v1 t) (fun r1 s2 =>
  if r1 = 0 then
    (some ((-2000000000 : Int32), s2))
  else
    ob (fX0_within v2 (-99 : Int32) (nI 99) s2) (fun r3 s4 =>
    if r3 = 0 then
      (some ((-2000000000 : Int32), s4))
    else
      ob (fX0_within v3 (nI 0) (nI 2) s4) (fun r5 s6 =>
      if r5 = 0 then
        (some ((-2000000000 : Int32), s6))
      else
        gd (cK s6 v0 = 1) (
        letv (cR s6 1 v0) (fun x7 =>
        rv x7 (fun a8 =>
        gd (cK s6 a8 = 2) (
        ob (fX1_copy a8 s6) (fun r9 s10 =>
        rv r9 (fun a11 =>
        gd (cK s10 a11 = 2) (
        letv (cR s10 6 a11) (fun x12 =>
        rv x12 (fun a13 =>
        gd (cK s10 a13 = 23 ∧ cIn s10 a13 v1) (
        letv (cR s10 (er (v1).toNatClampNeg) a13) (fun x14 =>
        letv (sN s10 6 0 2) (fun s15 =>
        ob (fX7_init (cn s10) (-1 : Int32) v2 s15) (fun r16 s17 =>
        gd (cK s17 a11 = 2) (
        ob (fX1_deals a11 x14 (some (cn s10)) s17) (fun r18 s19 =>
        if v3 = 0 then
          rv x14 (fun a20 =>
          gd (cK s19 a20 = 5) (
          letv (cI s19 34 a20) (fun x21 =>
          (some (x21, s19))
          )
          )
          )
        else
          if v3 = (nI 1) then
            rv x14 (fun a22 =>
            gd (cK s19 a22 = 5) (
            letv (cI s19 33 a22) (fun x23 =>
            if x23 = 0 then
              (some ((nI 0), s19))
            else
              (some ((nI 1), s19))
            )
            )
            )
          else
            (some (r18, s19))
        )
        )
        )
        )
        )
        )
        )
        )
        )
        )
        )
        )
        )
        )
        )
      )
    )
  )
  )
theorem mfX0_would (v0 : Nat) (v1 : Int32) (v2 : Int32) (v3 : Int32) (t : cS) : MO t (fX0_would v0 v1 v2 v3 t) := by
  unfold fX0_would
  refine mo_gd ?_
  refine mo_ob (by apply mfX0_isLive) (fun _ _ => ?_)
  refine mo_ite ?_ ?_
  · exact mo_some
  · refine mo_ob (by apply mfX0_within) (fun _ _ => ?_)
    refine mo_ite ?_ ?_
    · exact mo_some
    · refine mo_ob (by apply mfX0_within) (fun _ _ => ?_)
      refine mo_ite ?_ ?_
      · exact mo_some
      · refine mo_gd ?_
        refine mo_letv (fun _ => ?_)
        refine mo_rv (fun _ => ?_)
        refine mo_gd ?_
        refine mo_ob (by apply mfX1_copy) (fun _ _ => ?_)
        refine mo_rv (fun _ => ?_)
        refine mo_gd ?_
        refine mo_letv (fun _ => ?_)
        refine mo_rv (fun _ => ?_)
        refine mo_gd ?_
        refine mo_letv (fun _ => ?_)
        refine mo_letS cMo_sN (fun _ => ?_)
        refine mo_ob (by apply mfX7_init) (fun _ _ => ?_)
        refine mo_gd ?_
        refine mo_ob (by apply mfX1_deals) (fun _ _ => ?_)
        refine mo_ite ?_ ?_
        · refine mo_rv (fun _ => ?_)
          refine mo_gd ?_
          refine mo_letv (fun _ => ?_)
          exact mo_some
        · refine mo_ite ?_ ?_
          · refine mo_rv (fun _ => ?_)
            refine mo_gd ?_
            refine mo_letv (fun _ => ?_)
            refine mo_ite ?_ ?_
            · exact mo_some
            · exact mo_some
          · exact mo_some
set_option maxHeartbeats 4000000 in
theorem wX0_would (l : Launch) (Y : cY) (hl : l.stackTraces = false) (hY : ∀ q, q < Y.2.2.2.2.size → ¬ Y.2.2.2.1 q) (v0 : Nat) (v1 : Int32) (v2 : Int32) (v3 : Int32) (t : cS) : cFn l Y yX0_would (ws_ yX0_would cX0_would 7 (some .int)) 37 [.ref v0, .int v1, .int v2, .int v3] t (fX0_would v0 v1 v2 v3 t) rI := by
  refine cmet (av := [.ref v0, .int v1, .int v2, .int v3]) (mfX0_would v0 v1 v2 v3 t) hl hY (by decide +kernel) (lg_le (List.forall_mem_cons.mpr ⟨rfl, List.forall_mem_cons.mpr ⟨rfl, List.forall_mem_cons.mpr ⟨rfl, List.forall_mem_cons.mpr ⟨rfl, fun _ h => absurd h List.not_mem_nil⟩⟩⟩⟩) (Nat.le_of_ble_eq_true rfl)) (lv_args_cat (List.forall_mem_cons.mpr ⟨rfl, List.forall_mem_cons.mpr ⟨rfl, List.forall_mem_cons.mpr ⟨rfl, List.forall_mem_cons.mpr ⟨rfl, fun _ h => absurd h List.not_mem_nil⟩⟩⟩⟩)) ?_
  intro X ad0 hln hC hnL hrt hnm hT hmd
  subst hln
  have hG := hC.1
  rw [lv_args_s (List.forall_mem_cons.mpr ⟨rfl, List.forall_mem_cons.mpr ⟨rfl, List.forall_mem_cons.mpr ⟨rfl, List.forall_mem_cons.mpr ⟨rfl, fun _ h => absurd h List.not_mem_nil⟩⟩⟩⟩)]
  show GC X Y (cM Y X 7 t ad0 rI) _ t 0 [(0, .ref v0), (1, .int v1), (2, .int v2), (3, .int v3)] []
  unfold fX0_would
  refine gc_aload_n hG (v := .ref v0) (refV_a _) dX0_would_0 rfl rfl ?_
  refine gc_iload_n hG dX0_would_1 rfl rfl ?_
  refine gc_gd (fun hk => ?_)
  refine gc_callV (f := fX0_isLive v0 v1 t) (As := [.int v1]) (rest := []) (n := 1) (d' := 2) (b := v0) hC hnL (wX0_isLive (gLn X) Y hl hY v0 v1 t) hk (ci := 0) rfl dX0_would_2 q1069 q1071 qs21 q74 q1072 ⟨by decide +kernel, by decide +kernel⟩ rfl (by decide) (by decide) (Nat.le_of_ble_eq_true rfl) (kn_I (fun r1 s2 => ?_)) kx_I
  refine gc_if_eq hG (tgt := 28) dX0_would_5 (by decide) ?_ ?_
  · refine gc_ldc hG (-2000000000 : Int32) dX0_would_28 q489 ?_
    exact gc_iret hC hrt rfl rfl dX0_would_30
  · refine gc_iload_n hG dX0_would_8 rfl rfl ?_
    refine gc_bipush hG (-99 : Int32) dX0_would_9 (by decide) ?_
    refine gc_bipush hG (nI 99) dX0_would_11 (by decide) ?_
    refine gc_callS (f := fX0_within v2 (-99 : Int32) (nI 99) s2) (As := [.int v2, .int (-99 : Int32), .int (nI 99)]) (rest := []) (n := 3) (d' := 1) hC hnL (wX0_within (gLn X) Y hl hY v2 (-99 : Int32) (nI 99) s2) dX0_would_13 q370 q250 q74 q251 ⟨by decide +kernel, by decide +kernel⟩ rfl (by decide) (by decide) (Nat.le_of_ble_eq_true rfl) (kn_I (fun r3 s4 => ?_)) kx_I
    refine gc_if_eq hG (tgt := 28) dX0_would_16 (by decide) ?_ ?_
    · refine gc_ldc hG (-2000000000 : Int32) dX0_would_28 q489 ?_
      exact gc_iret hC hrt rfl rfl dX0_would_30
    · refine gc_iload_n hG dX0_would_19 rfl rfl ?_
      refine gc_iconst hG (nI 0) dX0_would_20 (by decide) ?_
      refine gc_iconst hG (nI 2) dX0_would_21 (by decide) ?_
      refine gc_callS (f := fX0_within v3 (nI 0) (nI 2) s4) (As := [.int v3, .int (nI 0), .int (nI 2)]) (rest := []) (n := 3) (d' := 1) hC hnL (wX0_within (gLn X) Y hl hY v3 (nI 0) (nI 2) s4) dX0_would_22 q370 q250 q74 q251 ⟨by decide +kernel, by decide +kernel⟩ rfl (by decide) (by decide) (Nat.le_of_ble_eq_true rfl) (kn_I (fun r5 s6 => ?_)) kx_I
      refine gc_if_ne hG (tgt := 31) dX0_would_25 (by decide) ?_ ?_
      · refine gc_ldc hG (-2000000000 : Int32) dX0_would_28 q489 ?_
        exact gc_iret hC hrt rfl rfl dX0_would_30
      · refine gc_aload_n hG (v := .ref v0) (refV_a _) dX0_would_31 rfl rfl ?_
        refine gc_gd (fun hk => ?_)
        refine gc_get hC (ci := 0) (j := 0) (v := vr (cR s6 1 v0)) hk dX0_would_32 rfl (by decide) in_X0 q224 (fun _ h => h) rfl ?_
        refine gc_letr (fun x7 h_ => ?_)
        refine gc_rv (fun a8 h_ => ?_)
        subst h_
        refine gc_gd (fun hk => ?_)
        refine gc_callV (f := fX1_copy a8 s6) (As := []) (rest := []) (n := 0) (d' := 5) (b := a8) hC hnL (wX1_copy (gLn X) Y hl hY a8 s6) hk (ci := 1) rfl dX0_would_35 q1037 q1038 q1039 q75 q1040 ⟨by decide +kernel, by decide +kernel⟩ rfl (by decide) (by decide) (Nat.le_of_ble_eq_true rfl) (kn_R (fun r9 s10 => ?_)) kx_R
        refine gc_astore hG (refV_x _) dX0_would_38 (Nat.le_of_ble_eq_true rfl) (lv' := [(0, _), (1, _), (2, _), (3, _), (4, _)]) rfl ?_
        refine gc_aload hG (v := vr r9) (refV_x _) dX0_would_40 rfl ?_
        refine gc_rv (fun a11 h_ => ?_)
        subst h_
        refine gc_gd (fun hk => ?_)
        refine gc_getN hC (ci := 1) (j := 0) (v := vr (cR s10 6 a11)) hk dX0_would_42 rfl (by decide) in_X1 q160 (fun _ h => h) rfl ?_
        refine gc_letr (fun x12 h_ => ?_)
        refine gc_iload_n hG dX0_would_45 rfl rfl ?_
        refine gc_rv (fun a13 h_ => ?_)
        subst h_
        refine gc_gd (fun hk => ?_)
        refine gc_aald hC hk.1 (by decide) (by decide) (t0 := 3) rfl hk.2 dX0_would_46 ?_
        refine gc_letr (fun x14 h_ => ?_)
        refine gc_astore hG (refV_x _) dX0_would_47 (Nat.le_of_ble_eq_true rfl) (lv' := [(0, _), (1, _), (2, _), (3, _), (4, _), (5, _)]) rfl ?_
        refine gc_aload hG (v := .ref a11) (refV_a _) dX0_would_49 rfl ?_
        refine gc_aload hG (v := vr x14) (refV_x _) dX0_would_51 rfl ?_
        refine gc_new hC (ci := 5) tyX7 tyX7_ok rfl in_X7 dX0_would_53 q371 q372 q81 (by decide +kernel) ?_
        refine gc_letS (fun s15 => ?_)
        refine gc_dup hG dX0_would_56 rfl ?_
        refine gc_iconst hG (-1 : Int32) dX0_would_57 (by decide) ?_
        refine gc_iload_n hG dX0_would_58 rfl rfl ?_
        refine gc_callI (f := fX7_init (cn s10) (-1 : Int32) v2 s15) (As := [.int (-1 : Int32), .int v2]) (rest := [.ref (cn s10), vr x14, .ref a11]) (n := 2) (d' := 2) (b := (cn s10)) hC hnL (wX7_init (gLn X) Y hl hY (cn s10) (-1 : Int32) v2 s15) dX0_would_59 q373 q374 q81 q375 ⟨by decide +kernel, by decide +kernel⟩ rfl rfl (by decide) (by decide) (by simp [cat_vr, cat_r, cat_i, cat_n]) (kn_V (fun r16 s17 => ?_)) kx_V
        refine gc_gd (fun hk => ?_)
        refine gc_callVX (f := fX1_deals a11 x14 (some (cn s10)) s17) (As := [vr x14, .ref (cn s10)]) (rest := []) (n := 2) (d' := 36) (b := a11) hC hnL (wX1_deals (gLn X) Y hl hY a11 x14 (some (cn s10)) s17) hk (ci := 1) rfl dX0_would_62 q1073 q716 q717 q75 q718 ⟨by decide +kernel, by decide +kernel⟩ rfl (by decide) (by decide) (Nat.le_of_ble_eq_true rfl) (kn_I (fun r18 s19 => ?_)) kx_I
        refine gc_istore hG dX0_would_65 (Nat.le_of_ble_eq_true rfl) (lv' := [(0, _), (1, _), (2, _), (3, _), (4, _), (5, _), (6, _)]) rfl ?_
        refine gc_iload_n hG dX0_would_67 rfl rfl ?_
        refine gc_if_ne hG (tgt := 79) dX0_would_68 (by decide) ?_ ?_
        · refine gc_aload hG (v := vr x14) (refV_x _) dX0_would_71 rfl ?_
          refine gc_rv (fun a20 h_ => ?_)
          subst h_
          refine gc_gd (fun hk => ?_)
          refine gc_getN hC (ci := 4) (j := 8) (v := .int (cI s19 34 a20)) hk dX0_would_73 rfl (by decide) in_X5 q305 (fun _ h => h) rfl ?_
          refine gc_letv (fun x21 h_ => ?_)
          refine gc_goto hG (tgt := 102) dX0_would_76 (by decide) ?_
          exact gc_iret hC hrt rfl rfl dX0_would_102
        · refine gc_iload_n hG dX0_would_79 rfl rfl ?_
          refine gc_iconst hG (nI 1) dX0_would_80 (by decide) ?_
          refine gc_icmp_ne hG (tgt := 100) dX0_would_81 (by decide) ?_ ?_
          · refine gc_aload hG (v := vr x14) (refV_x _) dX0_would_84 rfl ?_
            refine gc_rv (fun a22 h_ => ?_)
            subst h_
            refine gc_gd (fun hk => ?_)
            refine gc_getN hC (ci := 4) (j := 7) (v := .int (cI s19 33 a22)) hk dX0_would_86 rfl (by decide) in_X5 q302 (fun _ h => h) rfl ?_
            refine gc_letv (fun x23 h_ => ?_)
            refine gc_if_eq hG (tgt := 96) dX0_would_89 (by decide) ?_ ?_
            · refine gc_iconst hG (nI 0) dX0_would_96 (by decide) ?_
              refine gc_goto hG (tgt := 102) dX0_would_97 (by decide) ?_
              exact gc_iret hC hrt rfl rfl dX0_would_102
            · refine gc_iconst hG (nI 1) dX0_would_92 (by decide) ?_
              refine gc_goto hG (tgt := 102) dX0_would_93 (by decide) ?_
              exact gc_iret hC hrt rfl rfl dX0_would_102
          · refine gc_iload hG dX0_would_100 rfl ?_
            exact gc_iret hC hrt rfl rfl dX0_would_102
def fX0_brings (v0 : Nat) (v1 : Int32) (v2 : Int32) (t : cS) : Option (Int32 × cS) :=
  gd (cK t v0 = 1) (
  ob (fX0_isLive v0 v1 t) (fun r1 s2 =>
  if r1 = 0 then
    (some ((-2000000000 : Int32), s2))
  else
    ob (fX0_within v2 (nI 0) (nI 2) s2) (fun r3 s4 =>
    if r3 = 0 then
      (some ((-2000000000 : Int32), s4))
    else
      gd (cK s4 v0 = 1) (
      letv (cR s4 1 v0) (fun x5 =>
      rv x5 (fun a6 =>
      gd (cK s4 a6 = 2) (
      ob (fX1_copy a6 s4) (fun r7 s8 =>
      letv (sN s8 10 0 8) (fun s9 =>
      ob (fX11_init (cn s8) v1 (nI 5) s9) (fun r10 s11 =>
      rv r7 (fun a12 =>
      gd (cK s11 a12 = 2) (
      ob (fX1_fails a12 (some (cn s8)) s11) (fun r13 s14 =>
      gsw v2 [
        ((nI 0), 
          gd (cK s14 a12 = 2) (
          letv (cI s14 18 a12) (fun x15 =>
          (some (x15, s14))
          )
          )
        ),
        ((nI 1), 
          gd (cK s14 v0 = 1) (
          letv (cR s14 1 v0) (fun x16 =>
          rv x16 (fun a17 =>
          gd (cK s14 a17 = 2) (
          ob (fX1_liveOnes a17 s14) (fun r18 s19 =>
          gd (cK s19 a12 = 2) (
          ob (fX1_liveOnes a12 s19) (fun r20 s21 =>
          (some (((r18 &&& (r20 ^^^ (-1 : Int32)))), s21))
          )
          )
          )
          )
          )
          )
          )
        )
      ] (
        gd (cK s14 a12 = 2) (
        letv (cR s14 16 a12) (fun x22 =>
        rv x22 (fun a23 =>
        gd (cK s14 a23 = 10) (
        letv (cI s14 57 a23) (fun x24 =>
        (some (x24, s14))
        )
        )
        )
        )
        )
      )
      )
      )
      )
      )
      )
      )
      )
      )
      )
      )
    )
  )
  )
theorem mfX0_brings (v0 : Nat) (v1 : Int32) (v2 : Int32) (t : cS) : MO t (fX0_brings v0 v1 v2 t) := by
  unfold fX0_brings
  refine mo_gd ?_
  refine mo_ob (by apply mfX0_isLive) (fun _ _ => ?_)
  refine mo_ite ?_ ?_
  · exact mo_some
  · refine mo_ob (by apply mfX0_within) (fun _ _ => ?_)
    refine mo_ite ?_ ?_
    · exact mo_some
    · refine mo_gd ?_
      refine mo_letv (fun _ => ?_)
      refine mo_rv (fun _ => ?_)
      refine mo_gd ?_
      refine mo_ob (by apply mfX1_copy) (fun _ _ => ?_)
      refine mo_letS cMo_sN (fun _ => ?_)
      refine mo_ob (by apply mfX11_init) (fun _ _ => ?_)
      refine mo_rv (fun _ => ?_)
      refine mo_gd ?_
      refine mo_ob (by apply mfX1_fails) (fun _ _ => ?_)
      refine mo_sw (List.forall_mem_cons.mpr ⟨?_, List.forall_mem_cons.mpr ⟨?_, fun _ h => absurd h List.not_mem_nil⟩⟩) ?_
      · dsimp only
        refine mo_gd ?_
        refine mo_letv (fun _ => ?_)
        exact mo_some
      · dsimp only
        refine mo_gd ?_
        refine mo_letv (fun _ => ?_)
        refine mo_rv (fun _ => ?_)
        refine mo_gd ?_
        refine mo_ob (by apply mfX1_liveOnes) (fun _ _ => ?_)
        refine mo_gd ?_
        refine mo_ob (by apply mfX1_liveOnes) (fun _ _ => ?_)
        exact mo_some
      · refine mo_gd ?_
        refine mo_letv (fun _ => ?_)
        refine mo_rv (fun _ => ?_)
        refine mo_gd ?_
        refine mo_letv (fun _ => ?_)
        exact mo_some
set_option maxHeartbeats 4000000 in
theorem wX0_brings (l : Launch) (Y : cY) (hl : l.stackTraces = false) (hY : ∀ q, q < Y.2.2.2.2.size → ¬ Y.2.2.2.1 q) (v0 : Nat) (v1 : Int32) (v2 : Int32) (t : cS) : cFn l Y yX0_brings (ws_ yX0_brings cX0_brings 4 (some .int)) 36 [.ref v0, .int v1, .int v2] t (fX0_brings v0 v1 v2 t) rI := by
  refine cmet (av := [.ref v0, .int v1, .int v2]) (mfX0_brings v0 v1 v2 t) hl hY (by decide +kernel) (lg_le (List.forall_mem_cons.mpr ⟨rfl, List.forall_mem_cons.mpr ⟨rfl, List.forall_mem_cons.mpr ⟨rfl, fun _ h => absurd h List.not_mem_nil⟩⟩⟩) (Nat.le_of_ble_eq_true rfl)) (lv_args_cat (List.forall_mem_cons.mpr ⟨rfl, List.forall_mem_cons.mpr ⟨rfl, List.forall_mem_cons.mpr ⟨rfl, fun _ h => absurd h List.not_mem_nil⟩⟩⟩)) ?_
  intro X ad0 hln hC hnL hrt hnm hT hmd
  subst hln
  have hG := hC.1
  rw [lv_args_s (List.forall_mem_cons.mpr ⟨rfl, List.forall_mem_cons.mpr ⟨rfl, List.forall_mem_cons.mpr ⟨rfl, fun _ h => absurd h List.not_mem_nil⟩⟩⟩)]
  show GC X Y (cM Y X 4 t ad0 rI) _ t 0 [(0, .ref v0), (1, .int v1), (2, .int v2)] []
  unfold fX0_brings
  refine gc_aload_n hG (v := .ref v0) (refV_a _) dX0_brings_0 rfl rfl ?_
  refine gc_iload_n hG dX0_brings_1 rfl rfl ?_
  refine gc_gd (fun hk => ?_)
  refine gc_callV (f := fX0_isLive v0 v1 t) (As := [.int v1]) (rest := []) (n := 1) (d' := 2) (b := v0) hC hnL (wX0_isLive (gLn X) Y hl hY v0 v1 t) hk (ci := 0) rfl dX0_brings_2 q1069 q1071 qs21 q74 q1072 ⟨by decide +kernel, by decide +kernel⟩ rfl (by decide) (by decide) (Nat.le_of_ble_eq_true rfl) (kn_I (fun r1 s2 => ?_)) kx_I
  refine gc_if_eq hG (tgt := 17) dX0_brings_5 (by decide) ?_ ?_
  · refine gc_ldc hG (-2000000000 : Int32) dX0_brings_17 q489 ?_
    exact gc_iret hC hrt rfl rfl dX0_brings_19
  · refine gc_iload_n hG dX0_brings_8 rfl rfl ?_
    refine gc_iconst hG (nI 0) dX0_brings_9 (by decide) ?_
    refine gc_iconst hG (nI 2) dX0_brings_10 (by decide) ?_
    refine gc_callS (f := fX0_within v2 (nI 0) (nI 2) s2) (As := [.int v2, .int (nI 0), .int (nI 2)]) (rest := []) (n := 3) (d' := 1) hC hnL (wX0_within (gLn X) Y hl hY v2 (nI 0) (nI 2) s2) dX0_brings_11 q370 q250 q74 q251 ⟨by decide +kernel, by decide +kernel⟩ rfl (by decide) (by decide) (Nat.le_of_ble_eq_true rfl) (kn_I (fun r3 s4 => ?_)) kx_I
    refine gc_if_ne hG (tgt := 20) dX0_brings_14 (by decide) ?_ ?_
    · refine gc_ldc hG (-2000000000 : Int32) dX0_brings_17 q489 ?_
      exact gc_iret hC hrt rfl rfl dX0_brings_19
    · refine gc_aload_n hG (v := .ref v0) (refV_a _) dX0_brings_20 rfl rfl ?_
      refine gc_gd (fun hk => ?_)
      refine gc_get hC (ci := 0) (j := 0) (v := vr (cR s4 1 v0)) hk dX0_brings_21 rfl (by decide) in_X0 q224 (fun _ h => h) rfl ?_
      refine gc_letr (fun x5 h_ => ?_)
      refine gc_rv (fun a6 h_ => ?_)
      subst h_
      refine gc_gd (fun hk => ?_)
      refine gc_callV (f := fX1_copy a6 s4) (As := []) (rest := []) (n := 0) (d' := 5) (b := a6) hC hnL (wX1_copy (gLn X) Y hl hY a6 s4) hk (ci := 1) rfl dX0_brings_24 q1037 q1038 q1039 q75 q1040 ⟨by decide +kernel, by decide +kernel⟩ rfl (by decide) (by decide) (Nat.le_of_ble_eq_true rfl) (kn_R (fun r7 s8 => ?_)) kx_R
      refine gc_astore_n hG (refV_x _) dX0_brings_27 rfl (Nat.le_of_ble_eq_true rfl) (lv' := [(0, _), (1, _), (2, _), (3, _)]) rfl ?_
      refine gc_aload_n hG (v := vr r7) (refV_x _) dX0_brings_28 rfl rfl ?_
      refine gc_new hC (ci := 9) tyX11 tyX11_ok rfl in_X11 dX0_brings_29 q1078 q728 q91 (by decide +kernel) ?_
      refine gc_letS (fun s9 => ?_)
      refine gc_dup hG dX0_brings_32 rfl ?_
      refine gc_iload_n hG dX0_brings_33 rfl rfl ?_
      refine gc_iconst hG (nI 5) dX0_brings_34 (by decide) ?_
      refine gc_callI (f := fX11_init (cn s8) v1 (nI 5) s9) (As := [.int v1, .int (nI 5)]) (rest := [.ref (cn s8), vr r7]) (n := 2) (d' := 4) (b := (cn s8)) hC hnL (wX11_init (gLn X) Y hl hY (cn s8) v1 (nI 5) s9) dX0_brings_35 q1079 q737 q91 q738 ⟨by decide +kernel, by decide +kernel⟩ rfl rfl (by decide) (by decide) (by simp [cat_vr, cat_r, cat_i, cat_n]) (kn_V (fun r10 s11 => ?_)) kx_V
      refine gc_rv (fun a12 h_ => ?_)
      subst h_
      refine gc_gd (fun hk => ?_)
      refine gc_callVX (f := fX1_fails a12 (some (cn s8)) s11) (As := [.ref (cn s8)]) (rest := []) (n := 1) (d' := 35) (b := a12) hC hnL (wX1_fails (gLn X) Y hl hY a12 (some (cn s8)) s11) hk (ci := 1) rfl dX0_brings_38 q1080 q977 q978 q75 q979 ⟨by decide +kernel, by decide +kernel⟩ rfl (by decide) (by decide) (Nat.le_of_ble_eq_true rfl) (kn_V (fun r13 s14 => ?_)) kx_V
      refine gc_iload_n hG dX0_brings_41 rfl rfl ?_
      refine gc_lsw hG (dt := 88) dX0_brings_42 (by decide) (by decide) ⟨⟨by decide, 68, by decide, ?_⟩, ⟨by decide, 73, by decide, ?_⟩, trivial⟩ ?_
      · refine gc_aload_n hG (v := .ref a12) (refV_a _) dX0_brings_68 rfl rfl ?_
        refine gc_gd (fun hk => ?_)
        refine gc_getN hC (ci := 1) (j := 12) (v := .int (cI s14 18 a12)) hk dX0_brings_69 rfl (by decide) in_X1 q187 (fun _ h => h) rfl ?_
        refine gc_letv (fun x15 h_ => ?_)
        exact gc_iret hC hrt rfl rfl dX0_brings_72
      · refine gc_aload_n hG (v := .ref v0) (refV_a _) dX0_brings_73 rfl rfl ?_
        refine gc_gd (fun hk => ?_)
        refine gc_get hC (ci := 0) (j := 0) (v := vr (cR s14 1 v0)) hk dX0_brings_74 rfl (by decide) in_X0 q224 (fun _ h => h) rfl ?_
        refine gc_letr (fun x16 h_ => ?_)
        refine gc_rv (fun a17 h_ => ?_)
        subst h_
        refine gc_gd (fun hk => ?_)
        refine gc_callV (f := fX1_liveOnes a17 s14) (As := []) (rest := []) (n := 0) (d' := 1) (b := a17) hC hnL (wX1_liveOnes (gLn X) Y hl hY a17 s14) hk (ci := 1) rfl dX0_brings_77 q626 q627 q628 q75 q629 ⟨by decide +kernel, by decide +kernel⟩ rfl (by decide) (by decide) (Nat.le_of_ble_eq_true rfl) (kn_I (fun r18 s19 => ?_)) kx_I
        refine gc_aload_n hG (v := .ref a12) (refV_a _) dX0_brings_80 rfl rfl ?_
        refine gc_gd (fun hk => ?_)
        refine gc_callV (f := fX1_liveOnes a12 s19) (As := []) (rest := [.int r18]) (n := 0) (d' := 1) (b := a12) hC hnL (wX1_liveOnes (gLn X) Y hl hY a12 s19) hk (ci := 1) rfl dX0_brings_81 q626 q627 q628 q75 q629 ⟨by decide +kernel, by decide +kernel⟩ rfl (by decide) (by decide) (Nat.le_of_ble_eq_true rfl) (kn_I (fun r20 s21 => ?_)) kx_I
        refine gc_iconst hG (-1 : Int32) dX0_brings_84 (by decide) ?_
        refine gc_ixor hG dX0_brings_85 ?_
        refine gc_iand hG dX0_brings_86 ?_
        exact gc_iret hC hrt rfl rfl dX0_brings_87
      · refine gc_aload_n hG (v := .ref a12) (refV_a _) dX0_brings_88 rfl rfl ?_
        refine gc_gd (fun hk => ?_)
        refine gc_getN hC (ci := 1) (j := 10) (v := vr (cR s14 16 a12)) hk dX0_brings_89 rfl (by decide) in_X1 q183 (fun _ h => h) rfl ?_
        refine gc_letr (fun x22 h_ => ?_)
        refine gc_rv (fun a23 h_ => ?_)
        subst h_
        refine gc_gd (fun hk => ?_)
        refine gc_getN hC (ci := 9) (j := 6) (v := .int (cI s14 57 a23)) hk dX0_brings_92 rfl (by decide) in_X11 q751 (fun _ h => h) rfl ?_
        refine gc_letv (fun x24 h_ => ?_)
        exact gc_iret hC hrt rfl rfl dX0_brings_95
def fX0_around_L4 (v0 : Nat) (v1 : Int32) (kx : Int32 → cS → Option (Int32 × cS)) : Nat → Int32 → Int32 → cS → Option (Int32 × cS)
  | 0, _, _, _ => none
  | k + 1, v2, v3, t =>
    gd (cK t v0 = 1) (
    letv (cR t 1 v0) (fun x1 =>
    rv x1 (fun a2 =>
    gd (cK t a2 = 2) (
    letv (cI t 7 a2) (fun x3 =>
    if v3 < x3 then
      gd (cK t v0 = 1) (
      letv (cR t 1 v0) (fun x4 =>
      rv x4 (fun a5 =>
      gd (cK t a5 = 2) (
      letv (cR t 6 a5) (fun x6 =>
      rv x6 (fun a7 =>
      gd (cK t a7 = 23 ∧ cIn t a7 v3) (
      letv (cR t (er (v3).toNatClampNeg) a7) (fun x8 =>
      rv x8 (fun a9 =>
      gd (cK t a9 = 5) (
      letv (cI t 27 a9) (fun x10 =>
      jn (fun (x11 : Int32) (t12 : cS) =>
        letv (v3 + (nI 1)) (fun y14 =>
        fX0_around_L4 v0 v1 kx k x11 y14 t12
        )
        ) (fun (j13 : Int32 → cS → Option (Int32 × cS)) =>
        if x10 < 0 then
          j13 v2 t
        else
          gd (cK t v0 = 1) (
          letv (cR t 1 v0) (fun x15 =>
          rv x15 (fun a16 =>
          gd (cK t a16 = 2) (
          letv (cR t 6 a16) (fun x17 =>
          rv x17 (fun a18 =>
          gd (cK t a18 = 23 ∧ cIn t a18 v3) (
          letv (cR t (er (v3).toNatClampNeg) a18) (fun x19 =>
          rv x19 (fun a20 =>
          gd (cK t a20 = 5) (
          letv (cI t 33 a20) (fun x21 =>
          if x21 = 0 then
            j13 v2 t
          else
            gd (cK t v0 = 1) (
            letv (cR t 1 v0) (fun x22 =>
            rv x22 (fun a23 =>
            gd (cK t a23 = 2) (
            letv (cR t 6 a23) (fun x24 =>
            rv x24 (fun a25 =>
            gd (cK t a25 = 23 ∧ cIn t a25 x10) (
            letv (cR t (er (x10).toNatClampNeg) a25) (fun x26 =>
            rv x26 (fun a27 =>
            gd (cK t a27 = 5) (
            letv (cI t 33 a27) (fun x28 =>
            if x28 = 0 then
              j13 v2 t
            else
              jn (fun  (t29 : cS) =>
                letv ((v2 ||| ((ishl32 (nI 1) v3) ||| (ishl32 (nI 1) x10)))) (fun y31 =>
                j13 y31 t29
                )
                ) (fun (j30 : cS → Option (Int32 × cS)) =>
                if ((ishr32 v1 v3) &&& (nI 1)) = (nI 1) then
                  j30 t
                else
                  if ((ishr32 v1 x10) &&& (nI 1)) = (nI 1) then
                    j30 t
                  else
                    j13 v2 t
                )
            )
            )
            )
            )
            )
            )
            )
            )
            )
            )
            )
          )
          )
          )
          )
          )
          )
          )
          )
          )
          )
          )
        )
      )
      )
      )
      )
      )
      )
      )
      )
      )
      )
      )
    else
      kx v2 t
    )
    )
    )
    )
    )
theorem mfX0_around_L4 (v0 : Nat) (v1 : Int32) (kx : Int32 → cS → Option (Int32 × cS)) (hkx : ∀ (v2 : Int32) (t : cS), MO t (kx v2 t)) : ∀ (k : Nat) (v2 : Int32) (v3 : Int32) (t : cS), MO t (fX0_around_L4 v0 v1 kx k v2 v3 t) := by
  intro k
  induction k with
  | zero => intro v2 v3 t; exact mo_none
  | succ k ih =>
    intro v2 v3 t
    rw [fX0_around_L4]
    refine mo_gd ?_
    refine mo_letv (fun _ => ?_)
    refine mo_rv (fun _ => ?_)
    refine mo_gd ?_
    refine mo_letv (fun _ => ?_)
    refine mo_ite ?_ ?_
    · refine mo_gd ?_
      refine mo_letv (fun _ => ?_)
      refine mo_rv (fun _ => ?_)
      refine mo_gd ?_
      refine mo_letv (fun _ => ?_)
      refine mo_rv (fun _ => ?_)
      refine mo_gd ?_
      refine mo_letv (fun _ => ?_)
      refine mo_rv (fun _ => ?_)
      refine mo_gd ?_
      refine mo_letv (fun _ => ?_)
      refine mo_jn (fun j_ => ∀ ( x11 : Int32 ) ( t12 : cS ), MO t12 (j_ x11 t12)) (fun x11 t12 => ?_) (fun j13 hj13 => ?_)
      · refine mo_letv (fun _ => ?_)
        exact ih _ _ _
      · refine mo_ite ?_ ?_
        · exact hj13 _ _
        · refine mo_gd ?_
          refine mo_letv (fun _ => ?_)
          refine mo_rv (fun _ => ?_)
          refine mo_gd ?_
          refine mo_letv (fun _ => ?_)
          refine mo_rv (fun _ => ?_)
          refine mo_gd ?_
          refine mo_letv (fun _ => ?_)
          refine mo_rv (fun _ => ?_)
          refine mo_gd ?_
          refine mo_letv (fun _ => ?_)
          refine mo_ite ?_ ?_
          · exact hj13 _ _
          · refine mo_gd ?_
            refine mo_letv (fun _ => ?_)
            refine mo_rv (fun _ => ?_)
            refine mo_gd ?_
            refine mo_letv (fun _ => ?_)
            refine mo_rv (fun _ => ?_)
            refine mo_gd ?_
            refine mo_letv (fun _ => ?_)
            refine mo_rv (fun _ => ?_)
            refine mo_gd ?_
            refine mo_letv (fun _ => ?_)
            refine mo_ite ?_ ?_
            · exact hj13 _ _
            · refine mo_jn (fun j_ => ∀ ( t29 : cS ), MO t29 (j_ t29)) (fun t29 => ?_) (fun j30 hj30 => ?_)
              · refine mo_letv (fun _ => ?_)
                exact hj13 _ _
              · refine mo_ite ?_ ?_
                · exact hj30 _
                · refine mo_ite ?_ ?_
                  · exact hj30 _
                  · exact hj13 _ _
    · exact hkx _ _
set_option maxHeartbeats 4000000 in
theorem gfX0_around_L4 {X : gCx} {Y : cY} {s0 : cS} {ad0 : Nat → Nat} (hC : cOk X Y RX0 cX0_around 1) (hl : (gLn X).stackTraces = false) (hY : ∀ q, q < Y.2.2.2.2.size → ¬ Y.2.2.2.1 q) (hnL : gLoc X = 5) (hrt : gRet X = (some .int)) (hnm : X.2.2.2.2.2.2.2.2.1.name = "around") (hT : gTab X = []) (hmd : (gSt X).methodNamed? yX0_around = some (gMe X)) (v0 : Nat) (v1 : Int32) (kx : Int32 → cS → Option (Int32 × cS)) (hkx : ∀ (v2 : Int32) (t : cS), GC X Y (cM Y X 5 s0 ad0 rI) (kx v2 t) t 104 [(2, .int v2)] []) : ∀ (k : Nat) (v2 : Int32) (v3 : Int32) (t : cS), GC X Y (cM Y X 5 s0 ad0 rI) (fX0_around_L4 v0 v1 kx k v2 v3 t) t 4 [(0, .ref v0), (1, .int v1), (2, .int v2), (3, .int v3)] [] := by
  have hG := hC.1
  intro k
  induction k with
  | zero => intro v2 v3 t; exact gc_none
  | succ k ih =>
    intro v2 v3 t
    rw [fX0_around_L4]
    refine gc_iload_n hG dX0_around_4 rfl rfl ?_
    refine gc_aload_n hG (v := .ref v0) (refV_a _) dX0_around_5 rfl rfl ?_
    refine gc_gd (fun hk => ?_)
    refine gc_get hC (ci := 0) (j := 0) (v := vr (cR t 1 v0)) hk dX0_around_6 rfl (by decide) in_X0 q224 (fun _ h => h) rfl ?_
    refine gc_letr (fun x1 h_ => ?_)
    refine gc_rv (fun a2 h_ => ?_)
    subst h_
    refine gc_gd (fun hk => ?_)
    refine gc_getN hC (ci := 1) (j := 1) (v := .int (cI t 7 a2)) hk dX0_around_9 rfl (by decide) in_X1 q164 (fun _ h => h) rfl ?_
    refine gc_letv (fun x3 h_ => ?_)
    refine gc_icmp_ge hG (tgt := 104) dX0_around_12 (by decide) ?_ ?_
    · refine gc_aload_n hG (v := .ref v0) (refV_a _) dX0_around_15 rfl rfl ?_
      refine gc_gd (fun hk => ?_)
      refine gc_get hC (ci := 0) (j := 0) (v := vr (cR t 1 v0)) hk dX0_around_16 rfl (by decide) in_X0 q224 (fun _ h => h) rfl ?_
      refine gc_letr (fun x4 h_ => ?_)
      refine gc_rv (fun a5 h_ => ?_)
      subst h_
      refine gc_gd (fun hk => ?_)
      refine gc_getN hC (ci := 1) (j := 0) (v := vr (cR t 6 a5)) hk dX0_around_19 rfl (by decide) in_X1 q160 (fun _ h => h) rfl ?_
      refine gc_letr (fun x6 h_ => ?_)
      refine gc_iload_n hG dX0_around_22 rfl rfl ?_
      refine gc_rv (fun a7 h_ => ?_)
      subst h_
      refine gc_gd (fun hk => ?_)
      refine gc_aald hC hk.1 (by decide) (by decide) (t0 := 3) rfl hk.2 dX0_around_23 ?_
      refine gc_letr (fun x8 h_ => ?_)
      refine gc_rv (fun a9 h_ => ?_)
      subst h_
      refine gc_gd (fun hk => ?_)
      refine gc_getN hC (ci := 4) (j := 1) (v := .int (cI t 27 a9)) hk dX0_around_24 rfl (by decide) in_X5 q286 (fun _ h => h) rfl ?_
      refine gc_letv (fun x10 h_ => ?_)
      refine gc_istore hG dX0_around_27 (Nat.le_of_ble_eq_true rfl) (lv' := [(0, _), (1, _), (2, _), (3, _), (4, _)]) rfl ?_
      refine gc_iload hG dX0_around_29 rfl ?_
      refine gc_jn (fun j_ => ∀ (x11 : Int32) (t12 : cS), GC X Y (cM Y X 5 s0 ad0 rI) (j_ x11 t12) t12 98 [(0, .ref v0), (1, .int v1), (2, .int x11), (3, .int v3)] []) (fun x11 t12 => ?_) (fun j13 hj13 => ?_)
      · refine gc_letiinc hG (c := (nI 1)) (lv' := fun y14 => [(0, .ref v0), (1, .int v1), (2, .int x11), (3, .int y14)]) dX0_around_98 rfl (by decide) (Nat.le_of_ble_eq_true rfl) (fun _ => rfl) (fun y14 => ?_)
        refine gc_goto hG (tgt := 4) dX0_around_101 (by decide) ?_
        exact ih x11 y14 t12
      · refine gc_if_lt hG (tgt := 98) dX0_around_31 (by decide) ?_ ?_
        · refine gc_sub [0, 1, 2, 3] rfl ?_
          exact hj13 v2 t
        · refine gc_aload_n hG (v := .ref v0) (refV_a _) dX0_around_34 rfl rfl ?_
          refine gc_gd (fun hk => ?_)
          refine gc_get hC (ci := 0) (j := 0) (v := vr (cR t 1 v0)) hk dX0_around_35 rfl (by decide) in_X0 q224 (fun _ h => h) rfl ?_
          refine gc_letr (fun x15 h_ => ?_)
          refine gc_rv (fun a16 h_ => ?_)
          subst h_
          refine gc_gd (fun hk => ?_)
          refine gc_getN hC (ci := 1) (j := 0) (v := vr (cR t 6 a16)) hk dX0_around_38 rfl (by decide) in_X1 q160 (fun _ h => h) rfl ?_
          refine gc_letr (fun x17 h_ => ?_)
          refine gc_iload_n hG dX0_around_41 rfl rfl ?_
          refine gc_rv (fun a18 h_ => ?_)
          subst h_
          refine gc_gd (fun hk => ?_)
          refine gc_aald hC hk.1 (by decide) (by decide) (t0 := 3) rfl hk.2 dX0_around_42 ?_
          refine gc_letr (fun x19 h_ => ?_)
          refine gc_rv (fun a20 h_ => ?_)
          subst h_
          refine gc_gd (fun hk => ?_)
          refine gc_getN hC (ci := 4) (j := 7) (v := .int (cI t 33 a20)) hk dX0_around_43 rfl (by decide) in_X5 q302 (fun _ h => h) rfl ?_
          refine gc_letv (fun x21 h_ => ?_)
          refine gc_if_eq hG (tgt := 98) dX0_around_46 (by decide) ?_ ?_
          · refine gc_sub [0, 1, 2, 3] rfl ?_
            exact hj13 v2 t
          · refine gc_aload_n hG (v := .ref v0) (refV_a _) dX0_around_49 rfl rfl ?_
            refine gc_gd (fun hk => ?_)
            refine gc_get hC (ci := 0) (j := 0) (v := vr (cR t 1 v0)) hk dX0_around_50 rfl (by decide) in_X0 q224 (fun _ h => h) rfl ?_
            refine gc_letr (fun x22 h_ => ?_)
            refine gc_rv (fun a23 h_ => ?_)
            subst h_
            refine gc_gd (fun hk => ?_)
            refine gc_getN hC (ci := 1) (j := 0) (v := vr (cR t 6 a23)) hk dX0_around_53 rfl (by decide) in_X1 q160 (fun _ h => h) rfl ?_
            refine gc_letr (fun x24 h_ => ?_)
            refine gc_iload hG dX0_around_56 rfl ?_
            refine gc_rv (fun a25 h_ => ?_)
            subst h_
            refine gc_gd (fun hk => ?_)
            refine gc_aald hC hk.1 (by decide) (by decide) (t0 := 3) rfl hk.2 dX0_around_58 ?_
            refine gc_letr (fun x26 h_ => ?_)
            refine gc_rv (fun a27 h_ => ?_)
            subst h_
            refine gc_gd (fun hk => ?_)
            refine gc_getN hC (ci := 4) (j := 7) (v := .int (cI t 33 a27)) hk dX0_around_59 rfl (by decide) in_X5 q302 (fun _ h => h) rfl ?_
            refine gc_letv (fun x28 h_ => ?_)
            refine gc_if_ne hG (tgt := 68) dX0_around_62 (by decide) ?_ ?_
            · refine gc_goto hG (tgt := 98) dX0_around_65 (by decide) ?_
              refine gc_sub [0, 1, 2, 3] rfl ?_
              exact hj13 v2 t
            · refine gc_iload_n hG dX0_around_68 rfl rfl ?_
              refine gc_iload_n hG dX0_around_69 rfl rfl ?_
              refine gc_ishr hG dX0_around_70 ?_
              refine gc_iconst hG (nI 1) dX0_around_71 (by decide) ?_
              refine gc_iand hG dX0_around_72 ?_
              refine gc_iconst hG (nI 1) dX0_around_73 (by decide) ?_
              refine gc_jn (fun j_ => ∀  (t29 : cS), GC X Y (cM Y X 5 s0 ad0 rI) (j_ t29) t29 87 [(0, .ref v0), (1, .int v1), (2, .int v2), (3, .int v3), (4, .int x10)] []) (fun t29 => ?_) (fun j30 hj30 => ?_)
              · refine gc_iload_n hG dX0_around_87 rfl rfl ?_
                refine gc_iconst hG (nI 1) dX0_around_88 (by decide) ?_
                refine gc_iload_n hG dX0_around_89 rfl rfl ?_
                refine gc_ishl hG dX0_around_90 ?_
                refine gc_iconst hG (nI 1) dX0_around_91 (by decide) ?_
                refine gc_iload hG dX0_around_92 rfl ?_
                refine gc_ishl hG dX0_around_94 ?_
                refine gc_ior hG dX0_around_95 ?_
                refine gc_ior hG dX0_around_96 ?_
                refine gc_letv (fun y31 hy31 => ?_)
                refine gc_istore_n hG dX0_around_97 rfl (Nat.le_of_ble_eq_true rfl) (lv' := [(0, _), (1, _), (2, _), (3, _), (4, _)]) rfl ?_
                refine gc_sub [0, 1, 2, 3] rfl ?_
                exact hj13 y31 t29
              · refine gc_icmp_eq hG (tgt := 87) dX0_around_74 (by decide) ?_ ?_
                · exact hj30 t
                · refine gc_iload_n hG dX0_around_77 rfl rfl ?_
                  refine gc_iload hG dX0_around_78 rfl ?_
                  refine gc_ishr hG dX0_around_80 ?_
                  refine gc_iconst hG (nI 1) dX0_around_81 (by decide) ?_
                  refine gc_iand hG dX0_around_82 ?_
                  refine gc_iconst hG (nI 1) dX0_around_83 (by decide) ?_
                  refine gc_icmp_ne hG (tgt := 98) dX0_around_84 (by decide) ?_ ?_
                  · exact hj30 t
                  · refine gc_sub [0, 1, 2, 3] rfl ?_
                    exact hj13 v2 t
    · refine gc_sub [2] rfl ?_
      exact hkx v2 t
def fX0_around (v0 : Nat) (v1 : Int32) (t : cS) : Option (Int32 × cS) :=
  fX0_around_L4 v0 v1 (fun (v2_32 : Int32) (t33 : cS) =>
    (some (v2_32, t33))
    ) FU v1 (nI 0) t
theorem mfX0_around (v0 : Nat) (v1 : Int32) (t : cS) : MO t (fX0_around v0 v1 t) := by
  unfold fX0_around
  refine mfX0_around_L4 _ _ _ (fun _ _ => ?_) _ _ _ _
  exact mo_some
set_option maxHeartbeats 4000000 in
theorem wX0_around (l : Launch) (Y : cY) (hl : l.stackTraces = false) (hY : ∀ q, q < Y.2.2.2.2.size → ¬ Y.2.2.2.1 q) (v0 : Nat) (v1 : Int32) (t : cS) : cFn l Y yX0_around (ws_ yX0_around cX0_around 5 (some .int)) 1 [.ref v0, .int v1] t (fX0_around v0 v1 t) rI := by
  refine cmet (av := [.ref v0, .int v1]) (mfX0_around v0 v1 t) hl hY (by decide +kernel) (lg_le (List.forall_mem_cons.mpr ⟨rfl, List.forall_mem_cons.mpr ⟨rfl, fun _ h => absurd h List.not_mem_nil⟩⟩) (Nat.le_of_ble_eq_true rfl)) (lv_args_cat (List.forall_mem_cons.mpr ⟨rfl, List.forall_mem_cons.mpr ⟨rfl, fun _ h => absurd h List.not_mem_nil⟩⟩)) ?_
  intro X ad0 hln hC hnL hrt hnm hT hmd
  subst hln
  have hG := hC.1
  rw [lv_args_s (List.forall_mem_cons.mpr ⟨rfl, List.forall_mem_cons.mpr ⟨rfl, fun _ h => absurd h List.not_mem_nil⟩⟩)]
  show GC X Y (cM Y X 5 t ad0 rI) _ t 0 [(0, .ref v0), (1, .int v1)] []
  unfold fX0_around
  refine gc_iload_n hG dX0_around_0 rfl rfl ?_
  refine gc_istore_n hG dX0_around_1 rfl (Nat.le_of_ble_eq_true rfl) (lv' := [(0, _), (1, _), (2, _)]) rfl ?_
  refine gc_iconst hG (nI 0) dX0_around_2 (by decide) ?_
  refine gc_istore_n hG dX0_around_3 rfl (Nat.le_of_ble_eq_true rfl) (lv' := [(0, _), (1, _), (2, _), (3, _)]) rfl ?_
  refine gfX0_around_L4 (s0 := t) (ad0 := ad0) hC hl hY hnL hrt hnm hT hmd v0 v1 _ (fun v2_32 t33 => ?_) FU v1 (nI 0) t
  refine gc_iload_n hG dX0_around_104 rfl rfl ?_
  exact gc_iret hC hrt rfl rfl dX0_around_105
def fX0_reach_L44 (v0 : Nat) (v2 : Int32) (kx : cS → Option (Int32 × cS)) : Nat → Int32 → Int32 → cS → Option (Int32 × cS)
  | 0, _, _, _ => none
  | k + 1, v3, v4, t =>
    if v4 < (nI 12) then
      if ((ishr32 v3 v2) &&& (nI 1)) = (nI 1) then
        (some (v4, t))
      else
        gd (cK t v0 = 1) (
        ob (fX0_around v0 v3 t) (fun r10 s11 =>
        letv (v4 + (nI 1)) (fun y12 =>
        fX0_reach_L44 v0 v2 kx k r10 y12 s11
        )
        )
        )
    else
      kx t
theorem mfX0_reach_L44 (v0 : Nat) (v2 : Int32) (kx : cS → Option (Int32 × cS)) (hkx : ∀  (t : cS), MO t (kx t)) : ∀ (k : Nat) (v3 : Int32) (v4 : Int32) (t : cS), MO t (fX0_reach_L44 v0 v2 kx k v3 v4 t) := by
  intro k
  induction k with
  | zero => intro v3 v4 t; exact mo_none
  | succ k ih =>
    intro v3 v4 t
    rw [fX0_reach_L44]
    refine mo_ite ?_ ?_
    · refine mo_ite ?_ ?_
      · exact mo_some
      · refine mo_gd ?_
        refine mo_ob (by apply mfX0_around) (fun _ _ => ?_)
        refine mo_letv (fun _ => ?_)
        exact ih _ _ _
    · exact hkx _
set_option maxHeartbeats 4000000 in
theorem gfX0_reach_L44 {X : gCx} {Y : cY} {s0 : cS} {ad0 : Nat → Nat} (hC : cOk X Y RX0 cX0_reach 3) (hl : (gLn X).stackTraces = false) (hY : ∀ q, q < Y.2.2.2.2.size → ¬ Y.2.2.2.1 q) (hnL : gLoc X = 5) (hrt : gRet X = (some .int)) (hnm : X.2.2.2.2.2.2.2.2.1.name = "reach") (hT : gTab X = []) (hmd : (gSt X).methodNamed? yX0_reach = some (gMe X)) (v0 : Nat) (v2 : Int32) (kx : cS → Option (Int32 × cS)) (hkx : ∀  (t : cS), GC X Y (cM Y X 5 s0 ad0 rI) (kx t) t 75 [] []) : ∀ (k : Nat) (v3 : Int32) (v4 : Int32) (t : cS), GC X Y (cM Y X 5 s0 ad0 rI) (fX0_reach_L44 v0 v2 kx k v3 v4 t) t 44 [(0, .ref v0), (2, .int v2), (3, .int v3), (4, .int v4)] [] := by
  have hG := hC.1
  intro k
  induction k with
  | zero => intro v3 v4 t; exact gc_none
  | succ k ih =>
    intro v3 v4 t
    rw [fX0_reach_L44]
    refine gc_iload hG dX0_reach_44 rfl ?_
    refine gc_bipush hG (nI 12) dX0_reach_46 (by decide) ?_
    refine gc_icmp_ge hG (tgt := 75) dX0_reach_48 (by decide) ?_ ?_
    · refine gc_iload_n hG dX0_reach_51 rfl rfl ?_
      refine gc_iload_n hG dX0_reach_52 rfl rfl ?_
      refine gc_ishr hG dX0_reach_53 ?_
      refine gc_iconst hG (nI 1) dX0_reach_54 (by decide) ?_
      refine gc_iand hG dX0_reach_55 ?_
      refine gc_iconst hG (nI 1) dX0_reach_56 (by decide) ?_
      refine gc_icmp_ne hG (tgt := 63) dX0_reach_57 (by decide) ?_ ?_
      · refine gc_iload hG dX0_reach_60 rfl ?_
        exact gc_iret hC hrt rfl rfl dX0_reach_62
      · refine gc_aload_n hG (v := .ref v0) (refV_a _) dX0_reach_63 rfl rfl ?_
        refine gc_iload_n hG dX0_reach_64 rfl rfl ?_
        refine gc_gd (fun hk => ?_)
        refine gc_callV (f := fX0_around v0 v3 t) (As := [.int v3]) (rest := []) (n := 1) (d' := 1) (b := v0) hC hnL (wX0_around (gLn X) Y hl hY v0 v3 t) hk (ci := 0) rfl dX0_reach_65 q1085 q1087 qs22 q74 q1088 ⟨by decide +kernel, by decide +kernel⟩ rfl (by decide) (by decide) (Nat.le_of_ble_eq_true rfl) (kn_I (fun r10 s11 => ?_)) kx_I
        refine gc_istore_n hG dX0_reach_68 rfl (Nat.le_of_ble_eq_true rfl) (lv' := [(0, _), (2, _), (3, _), (4, _)]) rfl ?_
        refine gc_letiinc hG (c := (nI 1)) (lv' := fun y12 => [(0, .ref v0), (2, .int v2), (3, .int r10), (4, .int y12)]) dX0_reach_69 rfl (by decide) (Nat.le_of_ble_eq_true rfl) (fun _ => rfl) (fun y12 => ?_)
        refine gc_goto hG (tgt := 44) dX0_reach_72 (by decide) ?_
        exact ih r10 y12 s11
    · refine gc_sub [] rfl ?_
      exact hkx t
def fX0_reach (v0 : Nat) (v1 : Int32) (v2 : Int32) (t : cS) : Option (Int32 × cS) :=
  gd (cK t v0 = 1) (
  ob (fX0_isActor v0 v1 t) (fun r1 s2 =>
  if r1 = 0 then
    (some ((-1 : Int32), s2))
  else
    gd (cK s2 v0 = 1) (
    ob (fX0_isActor v0 v2 s2) (fun r3 s4 =>
    if r3 = 0 then
      (some ((-1 : Int32), s4))
    else
      gd (cK s4 v0 = 1) (
      ob (fX0_isLive v0 v1 s4) (fun r5 s6 =>
      if r5 = 0 then
        (some ((-2 : Int32), s6))
      else
        gd (cK s6 v0 = 1) (
        ob (fX0_isLive v0 v2 s6) (fun r7 s8 =>
        if r7 = 0 then
          (some ((-2 : Int32), s8))
        else
          letv ((ishl32 (nI 1) v1)) (fun y9 =>
          fX0_reach_L44 v0 v2 (fun  (t13 : cS) =>
            (some ((-2 : Int32), t13))
            ) FU y9 (nI 0) s8
          )
        )
        )
      )
      )
    )
    )
  )
  )
theorem mfX0_reach (v0 : Nat) (v1 : Int32) (v2 : Int32) (t : cS) : MO t (fX0_reach v0 v1 v2 t) := by
  unfold fX0_reach
  refine mo_gd ?_
  refine mo_ob (by apply mfX0_isActor) (fun _ _ => ?_)
  refine mo_ite ?_ ?_
  · exact mo_some
  · refine mo_gd ?_
    refine mo_ob (by apply mfX0_isActor) (fun _ _ => ?_)
    refine mo_ite ?_ ?_
    · exact mo_some
    · refine mo_gd ?_
      refine mo_ob (by apply mfX0_isLive) (fun _ _ => ?_)
      refine mo_ite ?_ ?_
      · exact mo_some
      · refine mo_gd ?_
        refine mo_ob (by apply mfX0_isLive) (fun _ _ => ?_)
        refine mo_ite ?_ ?_
        · exact mo_some
        · refine mo_letv (fun _ => ?_)
          refine mfX0_reach_L44 _ _ _ (fun _ => ?_) _ _ _ _
          exact mo_some
set_option maxHeartbeats 4000000 in
theorem wX0_reach (l : Launch) (Y : cY) (hl : l.stackTraces = false) (hY : ∀ q, q < Y.2.2.2.2.size → ¬ Y.2.2.2.1 q) (v0 : Nat) (v1 : Int32) (v2 : Int32) (t : cS) : cFn l Y yX0_reach (ws_ yX0_reach cX0_reach 5 (some .int)) 3 [.ref v0, .int v1, .int v2] t (fX0_reach v0 v1 v2 t) rI := by
  refine cmet (av := [.ref v0, .int v1, .int v2]) (mfX0_reach v0 v1 v2 t) hl hY (by decide +kernel) (lg_le (List.forall_mem_cons.mpr ⟨rfl, List.forall_mem_cons.mpr ⟨rfl, List.forall_mem_cons.mpr ⟨rfl, fun _ h => absurd h List.not_mem_nil⟩⟩⟩) (Nat.le_of_ble_eq_true rfl)) (lv_args_cat (List.forall_mem_cons.mpr ⟨rfl, List.forall_mem_cons.mpr ⟨rfl, List.forall_mem_cons.mpr ⟨rfl, fun _ h => absurd h List.not_mem_nil⟩⟩⟩)) ?_
  intro X ad0 hln hC hnL hrt hnm hT hmd
  subst hln
  have hG := hC.1
  rw [lv_args_s (List.forall_mem_cons.mpr ⟨rfl, List.forall_mem_cons.mpr ⟨rfl, List.forall_mem_cons.mpr ⟨rfl, fun _ h => absurd h List.not_mem_nil⟩⟩⟩)]
  show GC X Y (cM Y X 5 t ad0 rI) _ t 0 [(0, .ref v0), (1, .int v1), (2, .int v2)] []
  unfold fX0_reach
  refine gc_aload_n hG (v := .ref v0) (refV_a _) dX0_reach_0 rfl rfl ?_
  refine gc_iload_n hG dX0_reach_1 rfl rfl ?_
  refine gc_gd (fun hk => ?_)
  refine gc_callV (f := fX0_isActor v0 v1 t) (As := [.int v1]) (rest := []) (n := 1) (d' := 1) (b := v0) hC hnL (wX0_isActor (gLn X) Y hl hY v0 v1 t) hk (ci := 0) rfl dX0_reach_2 q366 q368 qs0 q74 q369 ⟨by decide +kernel, by decide +kernel⟩ rfl (by decide) (by decide) (Nat.le_of_ble_eq_true rfl) (kn_I (fun r1 s2 => ?_)) kx_I
  refine gc_if_eq hG (tgt := 16) dX0_reach_5 (by decide) ?_ ?_
  · refine gc_iconst hG (-1 : Int32) dX0_reach_16 (by decide) ?_
    exact gc_iret hC hrt rfl rfl dX0_reach_17
  · refine gc_aload_n hG (v := .ref v0) (refV_a _) dX0_reach_8 rfl rfl ?_
    refine gc_iload_n hG dX0_reach_9 rfl rfl ?_
    refine gc_gd (fun hk => ?_)
    refine gc_callV (f := fX0_isActor v0 v2 s2) (As := [.int v2]) (rest := []) (n := 1) (d' := 1) (b := v0) hC hnL (wX0_isActor (gLn X) Y hl hY v0 v2 s2) hk (ci := 0) rfl dX0_reach_10 q366 q368 qs0 q74 q369 ⟨by decide +kernel, by decide +kernel⟩ rfl (by decide) (by decide) (Nat.le_of_ble_eq_true rfl) (kn_I (fun r3 s4 => ?_)) kx_I
    refine gc_if_ne hG (tgt := 18) dX0_reach_13 (by decide) ?_ ?_
    · refine gc_iconst hG (-1 : Int32) dX0_reach_16 (by decide) ?_
      exact gc_iret hC hrt rfl rfl dX0_reach_17
    · refine gc_aload_n hG (v := .ref v0) (refV_a _) dX0_reach_18 rfl rfl ?_
      refine gc_iload_n hG dX0_reach_19 rfl rfl ?_
      refine gc_gd (fun hk => ?_)
      refine gc_callV (f := fX0_isLive v0 v1 s4) (As := [.int v1]) (rest := []) (n := 1) (d' := 2) (b := v0) hC hnL (wX0_isLive (gLn X) Y hl hY v0 v1 s4) hk (ci := 0) rfl dX0_reach_20 q1069 q1071 qs21 q74 q1072 ⟨by decide +kernel, by decide +kernel⟩ rfl (by decide) (by decide) (Nat.le_of_ble_eq_true rfl) (kn_I (fun r5 s6 => ?_)) kx_I
      refine gc_if_eq hG (tgt := 34) dX0_reach_23 (by decide) ?_ ?_
      · refine gc_bipush hG (-2 : Int32) dX0_reach_34 (by decide) ?_
        exact gc_iret hC hrt rfl rfl dX0_reach_36
      · refine gc_aload_n hG (v := .ref v0) (refV_a _) dX0_reach_26 rfl rfl ?_
        refine gc_iload_n hG dX0_reach_27 rfl rfl ?_
        refine gc_gd (fun hk => ?_)
        refine gc_callV (f := fX0_isLive v0 v2 s6) (As := [.int v2]) (rest := []) (n := 1) (d' := 2) (b := v0) hC hnL (wX0_isLive (gLn X) Y hl hY v0 v2 s6) hk (ci := 0) rfl dX0_reach_28 q1069 q1071 qs21 q74 q1072 ⟨by decide +kernel, by decide +kernel⟩ rfl (by decide) (by decide) (Nat.le_of_ble_eq_true rfl) (kn_I (fun r7 s8 => ?_)) kx_I
        refine gc_if_ne hG (tgt := 37) dX0_reach_31 (by decide) ?_ ?_
        · refine gc_bipush hG (-2 : Int32) dX0_reach_34 (by decide) ?_
          exact gc_iret hC hrt rfl rfl dX0_reach_36
        · refine gc_iconst hG (nI 1) dX0_reach_37 (by decide) ?_
          refine gc_iload_n hG dX0_reach_38 rfl rfl ?_
          refine gc_ishl hG dX0_reach_39 ?_
          refine gc_letv (fun y9 hy9 => ?_)
          refine gc_istore_n hG dX0_reach_40 rfl (Nat.le_of_ble_eq_true rfl) (lv' := [(0, _), (1, _), (2, _), (3, _)]) rfl ?_
          refine gc_iconst hG (nI 0) dX0_reach_41 (by decide) ?_
          refine gc_istore hG dX0_reach_42 (Nat.le_of_ble_eq_true rfl) (lv' := [(0, _), (1, _), (2, _), (3, _), (4, _)]) rfl ?_
          refine gc_sub [0, 2, 3, 4] rfl ?_
          refine gfX0_reach_L44 (s0 := t) (ad0 := ad0) hC hl hY hnL hrt hnm hT hmd v0 v2 _ (fun t13 => ?_) FU y9 (nI 0) s8
          refine gc_bipush hG (-2 : Int32) dX0_reach_75 (by decide) ?_
          exact gc_iret hC hrt rfl rfl dX0_reach_77
def fX0_feed (v0 : Nat) (v1 : Int32) (t : cS) : Option (Int32 × cS) :=
  ob (fX0_within v1 (nI 0) (nI 255) t) (fun r1 s2 =>
  if r1 = 0 then
    (some ((-1 : Int32), s2))
  else
    gd (cK s2 v0 = 1) (
    letv (cR s2 3 v0) (fun x3 =>
    gd (cK s2 v0 = 1) (
    letv (cI s2 4 v0) (fun x4 =>
    rv x3 (fun a5 =>
    gd (cK s2 a5 = 21 ∧ cL s2 a5 < 2147483648) (
    if cIn s2 a5 x4 then
      letv (sI s2 (ei (x4).toNatClampNeg) a5 (((v1).toInt8.toInt32)).toInt8.toInt32) (fun s6 =>
      gd (cK s6 v0 = 1) (
      letv (cI s6 4 v0) (fun x7 =>
      gd (cK s6 v0 = 1) (
      letv (sI s6 4 v0 (x7 + (nI 1))) (fun s8 =>
      gd (cK s8 v0 = 1) (
      letv (cI s8 4 v0) (fun x9 =>
      (some (x9, s8))
      )
      )
      )
      )
      )
      )
      )
    else
      letv (sX s2 3 222) (fun s10 =>
      (some ((-3 : Int32), s10))
      )
    )
    )
    )
    )
    )
    )
  )
theorem mfX0_feed (v0 : Nat) (v1 : Int32) (t : cS) : MO t (fX0_feed v0 v1 t) := by
  unfold fX0_feed
  refine mo_ob (by apply mfX0_within) (fun _ _ => ?_)
  refine mo_ite ?_ ?_
  · exact mo_some
  · refine mo_gd ?_
    refine mo_letv (fun _ => ?_)
    refine mo_gd ?_
    refine mo_letv (fun _ => ?_)
    refine mo_rv (fun _ => ?_)
    refine mo_gd ?_
    refine mo_ite ?_ ?_
    · refine mo_letS cMo_sI (fun _ => ?_)
      refine mo_gd ?_
      refine mo_letv (fun _ => ?_)
      refine mo_gd ?_
      refine mo_letS cMo_sI (fun _ => ?_)
      refine mo_gd ?_
      refine mo_letv (fun _ => ?_)
      exact mo_some
    · refine mo_letS cMo_sX (fun _ => ?_)
      exact mo_some
set_option maxHeartbeats 4000000 in
theorem wX0_feed (l : Launch) (Y : cY) (hl : l.stackTraces = false) (hY : ∀ q, q < Y.2.2.2.2.size → ¬ Y.2.2.2.1 q) (v0 : Nat) (v1 : Int32) (t : cS) : cFn l Y yX0_feed (wsW_ yX0_feed cX0_feed 3 (some .int) [(13, 24, 27, 245)]) 2 [.ref v0, .int v1] t (fX0_feed v0 v1 t) rI := by
  refine cmetW (av := [.ref v0, .int v1]) (mfX0_feed v0 v1 t) hl hY (by decide +kernel) (lg_le (List.forall_mem_cons.mpr ⟨rfl, List.forall_mem_cons.mpr ⟨rfl, fun _ h => absurd h List.not_mem_nil⟩⟩) (Nat.le_of_ble_eq_true rfl)) (lv_args_cat (List.forall_mem_cons.mpr ⟨rfl, List.forall_mem_cons.mpr ⟨rfl, fun _ h => absurd h List.not_mem_nil⟩⟩)) ?_
  intro X ad0 hln hC hnL hrt hnm hT hmd
  subst hln
  have hG := hC.1
  rw [lv_args_s (List.forall_mem_cons.mpr ⟨rfl, List.forall_mem_cons.mpr ⟨rfl, fun _ h => absurd h List.not_mem_nil⟩⟩)]
  show GC X Y (cM Y X 3 t ad0 rI) _ t 0 [(0, .ref v0), (1, .int v1)] []
  unfold fX0_feed
  refine gc_iload_n hG dX0_feed_0 rfl rfl ?_
  refine gc_iconst hG (nI 0) dX0_feed_1 (by decide) ?_
  refine gc_sipush hG (nI 255) dX0_feed_2 (by decide) ?_
  refine gc_callS (f := fX0_within v1 (nI 0) (nI 255) t) (As := [.int v1, .int (nI 0), .int (nI 255)]) (rest := []) (n := 3) (d' := 1) hC hnL (wX0_within (gLn X) Y hl hY v1 (nI 0) (nI 255) t) dX0_feed_5 q370 q250 q74 q251 ⟨by decide +kernel, by decide +kernel⟩ rfl (by decide) (by decide) (Nat.le_of_ble_eq_true rfl) (kn_I (fun r1 s2 => ?_)) kx_I
  refine gc_if_ne hG (tgt := 13) dX0_feed_8 (by decide) ?_ ?_
  · refine gc_iconst hG (-1 : Int32) dX0_feed_11 (by decide) ?_
    exact gc_iret hC hrt rfl rfl dX0_feed_12
  · refine gc_aload_n hG (v := .ref v0) (refV_a _) dX0_feed_13 rfl rfl ?_
    refine gc_gd (fun hk => ?_)
    refine gc_get hC (ci := 0) (j := 2) (v := vr (cR s2 3 v0)) hk dX0_feed_14 rfl (by decide) in_X0 q226 (fun _ h => h) rfl ?_
    refine gc_letr (fun x3 h_ => ?_)
    refine gc_aload_n hG (v := .ref v0) (refV_a _) dX0_feed_17 rfl rfl ?_
    refine gc_gd (fun hk => ?_)
    refine gc_get hC (ci := 0) (j := 3) (v := .int (cI s2 4 v0)) hk dX0_feed_18 rfl (by decide) in_X0 q227 (fun _ h => h) rfl ?_
    refine gc_letv (fun x4 h_ => ?_)
    refine gc_iload_n hG dX0_feed_21 rfl rfl ?_
    refine gc_i2b hG dX0_feed_22 ?_
    refine gc_rv (fun a5 h_ => ?_)
    subst h_
    refine gc_gd (fun hk => ?_)
    refine gc_ifp (fun hin => ?_) (fun hin => ?_)
    · refine gc_bast hC hk.1 hin dX0_feed_23 ?_
      refine gc_letS (fun s6 => ?_)
      refine gc_goto hG (tgt := 31) dX0_feed_24 (by decide) ?_
      refine gc_aload_n hG (v := .ref v0) (refV_a _) dX0_feed_31 rfl rfl ?_
      refine gc_dup hG dX0_feed_32 rfl ?_
      refine gc_gd (fun hk => ?_)
      refine gc_get hC (ci := 0) (j := 3) (v := .int (cI s6 4 v0)) hk dX0_feed_33 rfl (by decide) in_X0 q227 (fun _ h => h) rfl ?_
      refine gc_letv (fun x7 h_ => ?_)
      refine gc_iconst hG (nI 1) dX0_feed_36 (by decide) ?_
      refine gc_iadd hG dX0_feed_37 ?_
      refine gc_gd (fun hk => ?_)
      have pt := pt_I (s := s6) (f := 4) (a := v0) (x := (x7 + (nI 1))) rfl
      refine gc_put hC tyX0 tyX0_ok nmX0 hk dX0_feed_38 (ci := 0) (j := 3) (Or.inl (by decide)) rfl (by decide) in_X0 q227 (fun _ h => h) rfl (tyX0_ok 3 (by decide)) (fun _ => rfl) (fun _ => rfl) pt.1.1 pt.1.2.1 pt.1.2.2.1 pt.1.2.2.2 pt.2.1 pt.2.2.1 pt.2.2.2 ?_
      refine gc_letS (fun s8 => ?_)
      refine gc_aload_n hG (v := .ref v0) (refV_a _) dX0_feed_41 rfl rfl ?_
      refine gc_gd (fun hk => ?_)
      refine gc_get hC (ci := 0) (j := 3) (v := .int (cI s8 4 v0)) hk dX0_feed_42 rfl (by decide) in_X0 q227 (fun _ h => h) rfl ?_
      refine gc_letv (fun x9 h_ => ?_)
      exact gc_iret hC hrt rfl rfl dX0_feed_45
    · refine gc_bastX hC hk.1 hin hk.2 dX0_feed_23 (Nat.le_of_ble_eq_true rfl) ?_
      refine gn_catch hC hnL cVm_A (by decide) [] ((tableOf [(13, 24, 27, 245)])[0]) [] (by rw [hT]; rfl) (fun _ h => absurd h List.not_mem_nil) rfl (by decide) q1093 q859 rfl ?_
      refine gc_sub [] rfl ?_
      refine gn_letS (fun s10 => ?_)
      refine gc_astore_n hG (refV_a _) dX0_feed_27 rfl (Nat.le_of_ble_eq_true rfl) (lv' := [(2, _)]) rfl ?_
      refine gc_bipush hG (-3 : Int32) dX0_feed_28 (by decide) ?_
      exact gc_iret hC hrt rfl rfl dX0_feed_30
def fX17_init (v0 : Nat) (v1 : Int32) (t : cS) : Option (Unit × cS) :=
  ob (fJ1_init v0 t) (fun r1 s2 =>
  gd (cK s2 v0 = 15) (
  letv (sI s2 67 v0 v1) (fun s3 =>
  (some ((), s3))
  )
  )
  )
theorem mfX17_init (v0 : Nat) (v1 : Int32) (t : cS) : MO t (fX17_init v0 v1 t) := by
  unfold fX17_init
  refine mo_ob (by apply mfJ1_init) (fun _ _ => ?_)
  refine mo_gd ?_
  refine mo_letS cMo_sI (fun _ => ?_)
  exact mo_some
set_option maxHeartbeats 4000000 in
theorem wX17_init (l : Launch) (Y : cY) (hl : l.stackTraces = false) (hY : ∀ q, q < Y.2.2.2.2.size → ¬ Y.2.2.2.1 q) (v0 : Nat) (v1 : Int32) (t : cS) : cFn l Y yX17_init (ws_ yX17_init cX17_init 2 none) 3 [.ref v0, .int v1] t (fX17_init v0 v1 t) rV := by
  refine cmet (av := [.ref v0, .int v1]) (mfX17_init v0 v1 t) hl hY (by decide +kernel) (lg_le (List.forall_mem_cons.mpr ⟨rfl, List.forall_mem_cons.mpr ⟨rfl, fun _ h => absurd h List.not_mem_nil⟩⟩) (Nat.le_of_ble_eq_true rfl)) (lv_args_cat (List.forall_mem_cons.mpr ⟨rfl, List.forall_mem_cons.mpr ⟨rfl, fun _ h => absurd h List.not_mem_nil⟩⟩)) ?_
  intro X ad0 hln hC hnL hrt hnm hT hmd
  subst hln
  have hG := hC.1
  rw [lv_args_s (List.forall_mem_cons.mpr ⟨rfl, List.forall_mem_cons.mpr ⟨rfl, fun _ h => absurd h List.not_mem_nil⟩⟩)]
  show GC X Y (cM Y X 2 t ad0 rV) _ t 0 [(0, .ref v0), (1, .int v1)] []
  unfold fX17_init
  refine gc_aload_n hG (v := .ref v0) (refV_a _) dX17_init_0 rfl rfl ?_
  refine gc_callI (f := fJ1_init v0 t) (As := []) (rest := []) (n := 0) (d' := 2) (b := v0) hC hnL (wJ1_init (gLn X) Y hl hY v0 t) dX17_init_1 q1150 q502 q85 q503 ⟨by decide +kernel, by decide +kernel⟩ rfl rfl (by decide) (by decide) (Nat.le_of_ble_eq_true rfl) (kn_V (fun r1 s2 => ?_)) kx_V
  refine gc_aload_n hG (v := .ref v0) (refV_a _) dX17_init_4 rfl rfl ?_
  refine gc_iload_n hG dX17_init_5 rfl rfl ?_
  refine gc_gd (fun hk => ?_)
  have pt := pt_I (s := s2) (f := 67) (a := v0) (x := v1) rfl
  refine gc_putF hC tyX17 tyX17_ok nmX17 hk dX17_init_6 (ci := 14) (j := 6) (Or.inl (by decide)) rfl (by decide) in_X17 q1151 (fun _ h => h) rfl (by rw [hnm]; rfl) rfl (tyX17_ok 6 (by decide)) (fun _ => rfl) (fun _ => rfl) pt.1.1 pt.1.2.1 pt.1.2.2.1 pt.1.2.2.2 pt.2.1 pt.2.2.1 pt.2.2.2 ?_
  refine gc_letS (fun s3 => ?_)
  exact gc_vret hC hrt rfl dX17_init_9
def fX16_does_2 (v0 : Nat) (v1 : Option Nat) (v2 : Int32) (t : cS) : Option ((Unit ⊕ Nat) × cS) :=
  letv (((nI 6) * v2)) (fun y1 =>
  gd (cK t v0 = 14) (
  letv (cR t 64 v0) (fun x2 =>
  rv x2 (fun a3 =>
  gd (cK t a3 = 20 ∧ cIn t a3 y1) (
  letv (cI t (ei (y1).toNatClampNeg) a3) (fun x4 =>
  jn (fun (x5 : Int32) (t6 : cS) =>
    if x5 = 0 then
      letv (sN t6 15 0 7) (fun s8 =>
      ob (fX17_init (cn t6) ((-2000 : Int32) - v2) s8) (fun r9 s10 =>
      gd (cK s10 (cn t6) = 15) (
      some (.inr (cn t6), s10)
      )
      )
      )
    else
      (some ((.inl ()), t6))
    ) (fun (j7 : Int32 → cS → Option ((Unit ⊕ Nat) × cS)) =>
    gsw x4 [
      ((nI 97), 
        gd (cK t v0 = 14) (
        letv (cR t 64 v0) (fun x11 =>
        rv x11 (fun a12 =>
        gd (cK t a12 = 20 ∧ cIn t a12 (y1 + (nI 1))) (
        letv (cI t (ei ((y1 + (nI 1))).toNatClampNeg) a12) (fun x13 =>
        jn (fun (x14 : Int32) (t15 : cS) =>
          gd (cK t15 v0 = 14) (
          letv (cR t15 64 v0) (fun x17 =>
          rv x17 (fun a18 =>
          gd (cK t15 a18 = 20 ∧ cIn t15 a18 (y1 + (nI 2))) (
          letv (cI t15 (ei ((y1 + (nI 2))).toNatClampNeg) a18) (fun x19 =>
          gd (cK t15 v0 = 14) (
          letv (cR t15 64 v0) (fun x20 =>
          rv x20 (fun a21 =>
          gd (cK t15 a21 = 20 ∧ cIn t15 a21 (y1 + (nI 3))) (
          letv (cI t15 (ei ((y1 + (nI 3))).toNatClampNeg) a21) (fun x22 =>
          gd (cK t15 v0 = 14) (
          letv (cR t15 64 v0) (fun x23 =>
          rv x23 (fun a24 =>
          gd (cK t15 a24 = 20 ∧ cIn t15 a24 (y1 + (nI 4))) (
          letv (cI t15 (ei ((y1 + (nI 4))).toNatClampNeg) a24) (fun x25 =>
          gd (cK t15 v0 = 14) (
          letv (cR t15 64 v0) (fun x26 =>
          rv x26 (fun a27 =>
          gd (cK t15 a27 = 20 ∧ cIn t15 a27 (y1 + (nI 5))) (
          letv (cI t15 (ei ((y1 + (nI 5))).toNatClampNeg) a27) (fun x28 =>
          rv v1 (fun a29 =>
          gd (cK t15 a29 = 2) (
          ob (fX1_bars a29 x14 x19 x22 x25 x28 t15) (fun r30 s31 =>
          jn (fun (x32 : Int32) (t33 : cS) =>
            if x32 = 0 then
              j7 x32 t33
            else
              gd (cK t33 v0 = 14) (
              letv (cR t33 64 v0) (fun x35 =>
              rv x35 (fun a36 =>
              gd (cK t33 a36 = 20 ∧ cIn t33 a36 (y1 + (nI 2))) (
              letv (cI t33 (ei ((y1 + (nI 2))).toNatClampNeg) a36) (fun x37 =>
              gd (cK t33 v0 = 14) (
              letv (cR t33 64 v0) (fun x38 =>
              rv x38 (fun a39 =>
              gd (cK t33 a39 = 20 ∧ cIn t33 a39 (y1 + (nI 3))) (
              letv (cI t33 (ei ((y1 + (nI 3))).toNatClampNeg) a39) (fun x40 =>
              gd (cK t33 v0 = 14) (
              letv (cR t33 64 v0) (fun x41 =>
              rv x41 (fun a42 =>
              gd (cK t33 a42 = 20 ∧ cIn t33 a42 (y1 + (nI 4))) (
              letv (cI t33 (ei ((y1 + (nI 4))).toNatClampNeg) a42) (fun x43 =>
              gd (cK t33 v0 = 14) (
              letv (cR t33 64 v0) (fun x44 =>
              rv x44 (fun a45 =>
              gd (cK t33 a45 = 20 ∧ cIn t33 a45 (y1 + (nI 5))) (
              letv (cI t33 (ei ((y1 + (nI 5))).toNatClampNeg) a45) (fun x46 =>
              gd (cK t33 a29 = 2) (
              ob (fX1_comes a29 x14 x37 x40 x43 x46 t33) (fun r47 s48 =>
              j7 x32 s48
              )
              )
              )
              )
              )
              )
              )
              )
              )
              )
              )
              )
              )
              )
              )
              )
              )
              )
              )
              )
              )
              )
            ) (fun (j34 : Int32 → cS → Option ((Unit ⊕ Nat) × cS)) =>
            if r30 = 0 then
              j34 (nI 1) s31
            else
              j34 (nI 0) s31
            )
          )
          )
          )
          )
          )
          )
          )
          )
          )
          )
          )
          )
          )
          )
          )
          )
          )
          )
          )
          )
          )
          )
          )
          ) (fun (j16 : Int32 → cS → Option ((Unit ⊕ Nat) × cS)) =>
          if x13 = (nI 99) then
            j16 (-1 : Int32) t
          else
            gd (cK t v0 = 14) (
            letv (cR t 64 v0) (fun x49 =>
            rv x49 (fun a50 =>
            gd (cK t a50 = 20 ∧ cIn t a50 (y1 + (nI 1))) (
            letv (cI t (ei ((y1 + (nI 1))).toNatClampNeg) a50) (fun x51 =>
            j16 x51 t
            )
            )
            )
            )
            )
          )
        )
        )
        )
        )
        )
      ),
      ((nI 109), 
        gd (cK t v0 = 14) (
        letv (cR t 64 v0) (fun x52 =>
        rv x52 (fun a53 =>
        gd (cK t a53 = 20 ∧ cIn t a53 (y1 + (nI 1))) (
        letv (cI t (ei ((y1 + (nI 1))).toNatClampNeg) a53) (fun x54 =>
        rv v1 (fun a55 =>
        gd (cK t a55 = 2) (
        letv (cI t 7 a55) (fun x56 =>
        jn (fun (x57 : Int32) (t58 : cS) =>
          if x57 = 0 then
            j7 x57 t58
          else
            gd (cK t58 a55 = 2) (
            letv (cR t58 6 a55) (fun x60 =>
            gd (cK t58 v0 = 14) (
            letv (cR t58 64 v0) (fun x61 =>
            rv x61 (fun a62 =>
            gd (cK t58 a62 = 20 ∧ cIn t58 a62 (y1 + (nI 1))) (
            letv (cI t58 (ei ((y1 + (nI 1))).toNatClampNeg) a62) (fun x63 =>
            rv x60 (fun a64 =>
            gd (cK t58 a64 = 23 ∧ cIn t58 a64 x63) (
            letv (cR t58 (er (x63).toNatClampNeg) a64) (fun x65 =>
            letv (sN t58 6 0 2) (fun s66 =>
            gd (cK s66 v0 = 14) (
            letv (cR s66 64 v0) (fun x67 =>
            rv x67 (fun a68 =>
            gd (cK s66 a68 = 20 ∧ cIn s66 a68 (y1 + (nI 2))) (
            letv (cI s66 (ei ((y1 + (nI 2))).toNatClampNeg) a68) (fun x69 =>
            ob (fX7_init (cn t58) (-1 : Int32) x69 s66) (fun r70 s71 =>
            gd (cK s71 a55 = 2) (
            ob (fX1_sends a55 x65 (some (cn t58)) s71) (fun r72 s73 =>
            j7 x57 s73
            )
            )
            )
            )
            )
            )
            )
            )
            )
            )
            )
            )
            )
            )
            )
            )
            )
            )
            )
          ) (fun (j59 : Int32 → cS → Option ((Unit ⊕ Nat) × cS)) =>
          if x54 < x56 then
            j59 (nI 1) t
          else
            j59 (nI 0) t
          )
        )
        )
        )
        )
        )
        )
        )
        )
      )
    ] (
      gd (cK t v0 = 14) (
      letv (cR t 64 v0) (fun x74 =>
      rv x74 (fun a75 =>
      gd (cK t a75 = 20 ∧ cIn t a75 (y1 + (nI 1))) (
      letv (cI t (ei ((y1 + (nI 1))).toNatClampNeg) a75) (fun x76 =>
      jn (fun (x77 : Int32) (t78 : cS) =>
        if x77 = 0 then
          j7 x77 t78
        else
          gd (cK t78 v0 = 14) (
          letv (cR t78 64 v0) (fun x80 =>
          rv x80 (fun a81 =>
          gd (cK t78 a81 = 20 ∧ cIn t78 a81 (y1 + (nI 1))) (
          letv (cI t78 (ei ((y1 + (nI 1))).toNatClampNeg) a81) (fun x82 =>
          rv v1 (fun a83 =>
          gd (cK t78 a83 = 2) (
          ob (fX1_runs a83 x82 t78) (fun r84 s85 =>
          j7 x77 s85
          )
          )
          )
          )
          )
          )
          )
          )
        ) (fun (j79 : Int32 → cS → Option ((Unit ⊕ Nat) × cS)) =>
        if 0 < x76 then
          j79 (nI 1) t
        else
          j79 (nI 0) t
        )
      )
      )
      )
      )
      )
    )
    )
  )
  )
  )
  )
  )
  )
theorem mfX16_does_2 (v0 : Nat) (v1 : Option Nat) (v2 : Int32) (t : cS) : MO t (fX16_does_2 v0 v1 v2 t) := by
  unfold fX16_does_2
  refine mo_letv (fun _ => ?_)
  refine mo_gd ?_
  refine mo_letv (fun _ => ?_)
  refine mo_rv (fun _ => ?_)
  refine mo_gd ?_
  refine mo_letv (fun _ => ?_)
  refine mo_jn (fun j_ => ∀ ( x5 : Int32 ) ( t6 : cS ), MO t6 (j_ x5 t6)) (fun x5 t6 => ?_) (fun j7 hj7 => ?_)
  · refine mo_ite ?_ ?_
    · refine mo_letS cMo_sN (fun _ => ?_)
      refine mo_ob (by apply mfX17_init) (fun _ _ => ?_)
      refine mo_gd ?_
      exact mo_some
    · exact mo_some
  · refine mo_sw (List.forall_mem_cons.mpr ⟨?_, List.forall_mem_cons.mpr ⟨?_, fun _ h => absurd h List.not_mem_nil⟩⟩) ?_
    · dsimp only
      refine mo_gd ?_
      refine mo_letv (fun _ => ?_)
      refine mo_rv (fun _ => ?_)
      refine mo_gd ?_
      refine mo_letv (fun _ => ?_)
      refine mo_jn (fun j_ => ∀ ( x14 : Int32 ) ( t15 : cS ), MO t15 (j_ x14 t15)) (fun x14 t15 => ?_) (fun j16 hj16 => ?_)
      · refine mo_gd ?_
        refine mo_letv (fun _ => ?_)
        refine mo_rv (fun _ => ?_)
        refine mo_gd ?_
        refine mo_letv (fun _ => ?_)
        refine mo_gd ?_
        refine mo_letv (fun _ => ?_)
        refine mo_rv (fun _ => ?_)
        refine mo_gd ?_
        refine mo_letv (fun _ => ?_)
        refine mo_gd ?_
        refine mo_letv (fun _ => ?_)
        refine mo_rv (fun _ => ?_)
        refine mo_gd ?_
        refine mo_letv (fun _ => ?_)
        refine mo_gd ?_
        refine mo_letv (fun _ => ?_)
        refine mo_rv (fun _ => ?_)
        refine mo_gd ?_
        refine mo_letv (fun _ => ?_)
        refine mo_rv (fun _ => ?_)
        refine mo_gd ?_
        refine mo_ob (by apply mfX1_bars) (fun _ _ => ?_)
        refine mo_jn (fun j_ => ∀ ( x32 : Int32 ) ( t33 : cS ), MO t33 (j_ x32 t33)) (fun x32 t33 => ?_) (fun j34 hj34 => ?_)
        · refine mo_ite ?_ ?_
          · exact hj7 _ _
          · refine mo_gd ?_
            refine mo_letv (fun _ => ?_)
            refine mo_rv (fun _ => ?_)
            refine mo_gd ?_
            refine mo_letv (fun _ => ?_)
            refine mo_gd ?_
            refine mo_letv (fun _ => ?_)
            refine mo_rv (fun _ => ?_)
            refine mo_gd ?_
            refine mo_letv (fun _ => ?_)
            refine mo_gd ?_
            refine mo_letv (fun _ => ?_)
            refine mo_rv (fun _ => ?_)
            refine mo_gd ?_
            refine mo_letv (fun _ => ?_)
            refine mo_gd ?_
            refine mo_letv (fun _ => ?_)
            refine mo_rv (fun _ => ?_)
            refine mo_gd ?_
            refine mo_letv (fun _ => ?_)
            refine mo_gd ?_
            refine mo_ob (by apply mfX1_comes) (fun _ _ => ?_)
            exact hj7 _ _
        · refine mo_ite ?_ ?_
          · exact hj34 _ _
          · exact hj34 _ _
      · refine mo_ite ?_ ?_
        · exact hj16 _ _
        · refine mo_gd ?_
          refine mo_letv (fun _ => ?_)
          refine mo_rv (fun _ => ?_)
          refine mo_gd ?_
          refine mo_letv (fun _ => ?_)
          exact hj16 _ _
    · dsimp only
      refine mo_gd ?_
      refine mo_letv (fun _ => ?_)
      refine mo_rv (fun _ => ?_)
      refine mo_gd ?_
      refine mo_letv (fun _ => ?_)
      refine mo_rv (fun _ => ?_)
      refine mo_gd ?_
      refine mo_letv (fun _ => ?_)
      refine mo_jn (fun j_ => ∀ ( x57 : Int32 ) ( t58 : cS ), MO t58 (j_ x57 t58)) (fun x57 t58 => ?_) (fun j59 hj59 => ?_)
      · refine mo_ite ?_ ?_
        · exact hj7 _ _
        · refine mo_gd ?_
          refine mo_letv (fun _ => ?_)
          refine mo_gd ?_
          refine mo_letv (fun _ => ?_)
          refine mo_rv (fun _ => ?_)
          refine mo_gd ?_
          refine mo_letv (fun _ => ?_)
          refine mo_rv (fun _ => ?_)
          refine mo_gd ?_
          refine mo_letv (fun _ => ?_)
          refine mo_letS cMo_sN (fun _ => ?_)
          refine mo_gd ?_
          refine mo_letv (fun _ => ?_)
          refine mo_rv (fun _ => ?_)
          refine mo_gd ?_
          refine mo_letv (fun _ => ?_)
          refine mo_ob (by apply mfX7_init) (fun _ _ => ?_)
          refine mo_gd ?_
          refine mo_ob (by apply mfX1_sends) (fun _ _ => ?_)
          exact hj7 _ _
      · refine mo_ite ?_ ?_
        · exact hj59 _ _
        · exact hj59 _ _
    · refine mo_gd ?_
      refine mo_letv (fun _ => ?_)
      refine mo_rv (fun _ => ?_)
      refine mo_gd ?_
      refine mo_letv (fun _ => ?_)
      refine mo_jn (fun j_ => ∀ ( x77 : Int32 ) ( t78 : cS ), MO t78 (j_ x77 t78)) (fun x77 t78 => ?_) (fun j79 hj79 => ?_)
      · refine mo_ite ?_ ?_
        · exact hj7 _ _
        · refine mo_gd ?_
          refine mo_letv (fun _ => ?_)
          refine mo_rv (fun _ => ?_)
          refine mo_gd ?_
          refine mo_letv (fun _ => ?_)
          refine mo_rv (fun _ => ?_)
          refine mo_gd ?_
          refine mo_ob (by apply mfX1_runs) (fun _ _ => ?_)
          exact hj7 _ _
      · refine mo_ite ?_ ?_
        · exact hj79 _ _
        · exact hj79 _ _
set_option maxHeartbeats 4000000 in
theorem wX16_does_2 (l : Launch) (Y : cY) (hl : l.stackTraces = false) (hY : ∀ q, q < Y.2.2.2.2.size → ¬ Y.2.2.2.1 q) (v0 : Nat) (v1 : Option Nat) (v2 : Int32) (t : cS) : cFn l Y yX16_does_2 (ws_ yX16_does_2 cX16_does_2 6 none) 39 [.ref v0, vr v1, .int v2] t (fX16_does_2 v0 v1 v2 t) rVx := by
  refine cmet (av := [.ref v0, vr v1, .int v2]) (mfX16_does_2 v0 v1 v2 t) hl hY (by decide +kernel) (lg_le (List.forall_mem_cons.mpr ⟨rfl, List.forall_mem_cons.mpr ⟨(cat_vr _), List.forall_mem_cons.mpr ⟨rfl, fun _ h => absurd h List.not_mem_nil⟩⟩⟩) (Nat.le_of_ble_eq_true rfl)) (lv_args_cat (List.forall_mem_cons.mpr ⟨rfl, List.forall_mem_cons.mpr ⟨(cat_vr _), List.forall_mem_cons.mpr ⟨rfl, fun _ h => absurd h List.not_mem_nil⟩⟩⟩)) ?_
  intro X ad0 hln hC hnL hrt hnm hT hmd
  subst hln
  have hG := hC.1
  rw [lv_args_s (List.forall_mem_cons.mpr ⟨rfl, List.forall_mem_cons.mpr ⟨(cat_vr _), List.forall_mem_cons.mpr ⟨rfl, fun _ h => absurd h List.not_mem_nil⟩⟩⟩)]
  show GC X Y (cM Y X 6 t ad0 rVx) _ t 0 [(0, .ref v0), (1, vr v1), (2, .int v2)] []
  unfold fX16_does_2
  refine gc_bipush hG (nI 6) dX16_does_2_0 (by decide) ?_
  refine gc_iload_n hG dX16_does_2_2 rfl rfl ?_
  refine gc_imul hG dX16_does_2_3 ?_
  refine gc_letv (fun y1 hy1 => ?_)
  refine gc_istore_n hG dX16_does_2_4 rfl (Nat.le_of_ble_eq_true rfl) (lv' := [(0, _), (1, _), (2, _), (3, _)]) rfl ?_
  refine gc_aload_n hG (v := .ref v0) (refV_a _) dX16_does_2_5 rfl rfl ?_
  refine gc_gd (fun hk => ?_)
  refine gc_get hC (ci := 13) (j := 2) (v := vr (cR t 64 v0)) hk dX16_does_2_6 rfl (by decide) in_X16 q1107 (fun _ h => h) rfl ?_
  refine gc_letr (fun x2 h_ => ?_)
  refine gc_iload_n hG dX16_does_2_9 rfl rfl ?_
  refine gc_rv (fun a3 h_ => ?_)
  subst h_
  refine gc_gd (fun hk => ?_)
  refine gc_iald hC hk.1 hk.2 dX16_does_2_10 ?_
  refine gc_letv (fun x4 h_ => ?_)
  refine gc_jn (fun j_ => ∀ (x5 : Int32) (t6 : cS), GC X Y (cM Y X 6 t ad0 rVx) (j_ x5 t6) t6 258 [(2, .int v2), (4, .int x5)] []) (fun x5 t6 => ?_) (fun j7 hj7 => ?_)
  · refine gc_iload hG dX16_does_2_258 rfl ?_
    refine gc_if_ne hG (tgt := 276) dX16_does_2_260 (by decide) ?_ ?_
    · refine gc_new hC (ci := 14) tyX17 tyX17_ok rfl in_X17 dX16_does_2_263 q1138 q1139 q103 (by decide +kernel) ?_
      refine gc_letS (fun s8 => ?_)
      refine gc_dup hG dX16_does_2_266 rfl ?_
      refine gc_sipush hG (-2000 : Int32) dX16_does_2_267 (by decide) ?_
      refine gc_iload_n hG dX16_does_2_270 rfl rfl ?_
      refine gc_isub hG dX16_does_2_271 ?_
      refine gc_callI (f := fX17_init (cn t6) ((-2000 : Int32) - v2) s8) (As := [.int ((-2000 : Int32) - v2)]) (rest := [.ref (cn t6)]) (n := 1) (d' := 3) (b := (cn t6)) hC hnL (wX17_init (gLn X) Y hl hY (cn t6) ((-2000 : Int32) - v2) s8) dX16_does_2_272 q1147 q1148 q103 q1149 ⟨by decide +kernel, by decide +kernel⟩ rfl rfl (by decide) (by decide) (Nat.le_of_ble_eq_true rfl) (kn_V (fun r9 s10 => ?_)) kx_V
      refine gc_athrow hG dX16_does_2_275 ?_
      refine gx_gd (fun hk => ?_)
      exact gx_outR hC hk (ci := 14) rfl rfl (by rw [hT]; intro z hz; cases hz)
    · exact gc_vret hC hrt rfl dX16_does_2_276
  · refine gc_lsw hG (dt := 222) dX16_does_2_11 (by decide) (by decide) ⟨⟨by decide, 36, by decide, ?_⟩, ⟨by decide, 158, by decide, ?_⟩, trivial⟩ ?_
    · refine gc_aload_n hG (v := .ref v0) (refV_a _) dX16_does_2_36 rfl rfl ?_
      refine gc_gd (fun hk => ?_)
      refine gc_get hC (ci := 13) (j := 2) (v := vr (cR t 64 v0)) hk dX16_does_2_37 rfl (by decide) in_X16 q1107 (fun _ h => h) rfl ?_
      refine gc_letr (fun x11 h_ => ?_)
      refine gc_iload_n hG dX16_does_2_40 rfl rfl ?_
      refine gc_iconst hG (nI 1) dX16_does_2_41 (by decide) ?_
      refine gc_iadd hG dX16_does_2_42 ?_
      refine gc_rv (fun a12 h_ => ?_)
      subst h_
      refine gc_gd (fun hk => ?_)
      refine gc_iald hC hk.1 hk.2 dX16_does_2_43 ?_
      refine gc_letv (fun x13 h_ => ?_)
      refine gc_bipush hG (nI 99) dX16_does_2_44 (by decide) ?_
      refine gc_jn (fun j_ => ∀ (x14 : Int32) (t15 : cS), GC X Y (cM Y X 6 t ad0 rVx) (j_ x14 t15) t15 61 [(0, .ref v0), (1, vr v1), (2, .int v2), (3, .int y1)] [.int x14]) (fun x14 t15 => ?_) (fun j16 hj16 => ?_)
      · refine gc_istore hG dX16_does_2_61 (Nat.le_of_ble_eq_true rfl) (lv' := [(0, _), (1, _), (2, _), (3, _), (5, _)]) rfl ?_
        refine gc_aload_n hG (v := vr v1) (refV_x _) dX16_does_2_63 rfl rfl ?_
        refine gc_iload hG dX16_does_2_64 rfl ?_
        refine gc_aload_n hG (v := .ref v0) (refV_a _) dX16_does_2_66 rfl rfl ?_
        refine gc_gd (fun hk => ?_)
        refine gc_get hC (ci := 13) (j := 2) (v := vr (cR t15 64 v0)) hk dX16_does_2_67 rfl (by decide) in_X16 q1107 (fun _ h => h) rfl ?_
        refine gc_letr (fun x17 h_ => ?_)
        refine gc_iload_n hG dX16_does_2_70 rfl rfl ?_
        refine gc_iconst hG (nI 2) dX16_does_2_71 (by decide) ?_
        refine gc_iadd hG dX16_does_2_72 ?_
        refine gc_rv (fun a18 h_ => ?_)
        subst h_
        refine gc_gd (fun hk => ?_)
        refine gc_iald hC hk.1 hk.2 dX16_does_2_73 ?_
        refine gc_letv (fun x19 h_ => ?_)
        refine gc_aload_n hG (v := .ref v0) (refV_a _) dX16_does_2_74 rfl rfl ?_
        refine gc_gd (fun hk => ?_)
        refine gc_get hC (ci := 13) (j := 2) (v := vr (cR t15 64 v0)) hk dX16_does_2_75 rfl (by decide) in_X16 q1107 (fun _ h => h) rfl ?_
        refine gc_letr (fun x20 h_ => ?_)
        refine gc_iload_n hG dX16_does_2_78 rfl rfl ?_
        refine gc_iconst hG (nI 3) dX16_does_2_79 (by decide) ?_
        refine gc_iadd hG dX16_does_2_80 ?_
        refine gc_rv (fun a21 h_ => ?_)
        subst h_
        refine gc_gd (fun hk => ?_)
        refine gc_iald hC hk.1 hk.2 dX16_does_2_81 ?_
        refine gc_letv (fun x22 h_ => ?_)
        refine gc_aload_n hG (v := .ref v0) (refV_a _) dX16_does_2_82 rfl rfl ?_
        refine gc_gd (fun hk => ?_)
        refine gc_get hC (ci := 13) (j := 2) (v := vr (cR t15 64 v0)) hk dX16_does_2_83 rfl (by decide) in_X16 q1107 (fun _ h => h) rfl ?_
        refine gc_letr (fun x23 h_ => ?_)
        refine gc_iload_n hG dX16_does_2_86 rfl rfl ?_
        refine gc_iconst hG (nI 4) dX16_does_2_87 (by decide) ?_
        refine gc_iadd hG dX16_does_2_88 ?_
        refine gc_rv (fun a24 h_ => ?_)
        subst h_
        refine gc_gd (fun hk => ?_)
        refine gc_iald hC hk.1 hk.2 dX16_does_2_89 ?_
        refine gc_letv (fun x25 h_ => ?_)
        refine gc_aload_n hG (v := .ref v0) (refV_a _) dX16_does_2_90 rfl rfl ?_
        refine gc_gd (fun hk => ?_)
        refine gc_get hC (ci := 13) (j := 2) (v := vr (cR t15 64 v0)) hk dX16_does_2_91 rfl (by decide) in_X16 q1107 (fun _ h => h) rfl ?_
        refine gc_letr (fun x26 h_ => ?_)
        refine gc_iload_n hG dX16_does_2_94 rfl rfl ?_
        refine gc_iconst hG (nI 5) dX16_does_2_95 (by decide) ?_
        refine gc_iadd hG dX16_does_2_96 ?_
        refine gc_rv (fun a27 h_ => ?_)
        subst h_
        refine gc_gd (fun hk => ?_)
        refine gc_iald hC hk.1 hk.2 dX16_does_2_97 ?_
        refine gc_letv (fun x28 h_ => ?_)
        refine gc_rv (fun a29 h_ => ?_)
        subst h_
        refine gc_gd (fun hk => ?_)
        refine gc_callV (f := fX1_bars a29 x14 x19 x22 x25 x28 t15) (As := [.int x14, .int x19, .int x22, .int x25, .int x28]) (rest := []) (n := 5) (d' := 2) (b := a29) hC hnL (wX1_bars (gLn X) Y hl hY a29 x14 x19 x22 x25 x28 t15) hk (ci := 1) rfl dX16_does_2_98 q1178 q246 q247 q75 q248 ⟨by decide +kernel, by decide +kernel⟩ rfl (by decide) (by decide) (Nat.le_of_ble_eq_true rfl) (kn_I (fun r30 s31 => ?_)) kx_I
        refine gc_jn (fun j_ => ∀ (x32 : Int32) (t33 : cS), GC X Y (cM Y X 6 t ad0 rVx) (j_ x32 t33) t33 109 [(0, .ref v0), (1, .ref a29), (2, .int v2), (3, .int y1), (5, .int x14)] [.int x32]) (fun x32 t33 => ?_) (fun j34 hj34 => ?_)
        · refine gc_istore hG dX16_does_2_109 (Nat.le_of_ble_eq_true rfl) (lv' := [(0, _), (1, _), (2, _), (3, _), (4, _), (5, _)]) rfl ?_
          refine gc_iload hG dX16_does_2_111 rfl ?_
          refine gc_if_eq hG (tgt := 258) dX16_does_2_113 (by decide) ?_ ?_
          · refine gc_sub [2, 4] rfl ?_
            exact hj7 x32 t33
          · refine gc_aload_n hG (v := .ref a29) (refV_a _) dX16_does_2_116 rfl rfl ?_
            refine gc_iload hG dX16_does_2_117 rfl ?_
            refine gc_aload_n hG (v := .ref v0) (refV_a _) dX16_does_2_119 rfl rfl ?_
            refine gc_gd (fun hk => ?_)
            refine gc_get hC (ci := 13) (j := 2) (v := vr (cR t33 64 v0)) hk dX16_does_2_120 rfl (by decide) in_X16 q1107 (fun _ h => h) rfl ?_
            refine gc_letr (fun x35 h_ => ?_)
            refine gc_iload_n hG dX16_does_2_123 rfl rfl ?_
            refine gc_iconst hG (nI 2) dX16_does_2_124 (by decide) ?_
            refine gc_iadd hG dX16_does_2_125 ?_
            refine gc_rv (fun a36 h_ => ?_)
            subst h_
            refine gc_gd (fun hk => ?_)
            refine gc_iald hC hk.1 hk.2 dX16_does_2_126 ?_
            refine gc_letv (fun x37 h_ => ?_)
            refine gc_aload_n hG (v := .ref v0) (refV_a _) dX16_does_2_127 rfl rfl ?_
            refine gc_gd (fun hk => ?_)
            refine gc_get hC (ci := 13) (j := 2) (v := vr (cR t33 64 v0)) hk dX16_does_2_128 rfl (by decide) in_X16 q1107 (fun _ h => h) rfl ?_
            refine gc_letr (fun x38 h_ => ?_)
            refine gc_iload_n hG dX16_does_2_131 rfl rfl ?_
            refine gc_iconst hG (nI 3) dX16_does_2_132 (by decide) ?_
            refine gc_iadd hG dX16_does_2_133 ?_
            refine gc_rv (fun a39 h_ => ?_)
            subst h_
            refine gc_gd (fun hk => ?_)
            refine gc_iald hC hk.1 hk.2 dX16_does_2_134 ?_
            refine gc_letv (fun x40 h_ => ?_)
            refine gc_aload_n hG (v := .ref v0) (refV_a _) dX16_does_2_135 rfl rfl ?_
            refine gc_gd (fun hk => ?_)
            refine gc_get hC (ci := 13) (j := 2) (v := vr (cR t33 64 v0)) hk dX16_does_2_136 rfl (by decide) in_X16 q1107 (fun _ h => h) rfl ?_
            refine gc_letr (fun x41 h_ => ?_)
            refine gc_iload_n hG dX16_does_2_139 rfl rfl ?_
            refine gc_iconst hG (nI 4) dX16_does_2_140 (by decide) ?_
            refine gc_iadd hG dX16_does_2_141 ?_
            refine gc_rv (fun a42 h_ => ?_)
            subst h_
            refine gc_gd (fun hk => ?_)
            refine gc_iald hC hk.1 hk.2 dX16_does_2_142 ?_
            refine gc_letv (fun x43 h_ => ?_)
            refine gc_aload_n hG (v := .ref v0) (refV_a _) dX16_does_2_143 rfl rfl ?_
            refine gc_gd (fun hk => ?_)
            refine gc_get hC (ci := 13) (j := 2) (v := vr (cR t33 64 v0)) hk dX16_does_2_144 rfl (by decide) in_X16 q1107 (fun _ h => h) rfl ?_
            refine gc_letr (fun x44 h_ => ?_)
            refine gc_iload_n hG dX16_does_2_147 rfl rfl ?_
            refine gc_iconst hG (nI 5) dX16_does_2_148 (by decide) ?_
            refine gc_iadd hG dX16_does_2_149 ?_
            refine gc_rv (fun a45 h_ => ?_)
            subst h_
            refine gc_gd (fun hk => ?_)
            refine gc_iald hC hk.1 hk.2 dX16_does_2_150 ?_
            refine gc_letv (fun x46 h_ => ?_)
            refine gc_gd (fun hk => ?_)
            refine gc_callV (f := fX1_comes a29 x14 x37 x40 x43 x46 t33) (As := [.int x14, .int x37, .int x40, .int x43, .int x46]) (rest := []) (n := 5) (d' := 3) (b := a29) hC hnL (wX1_comes (gLn X) Y hl hY a29 x14 x37 x40 x43 x46 t33) hk (ci := 1) rfl dX16_does_2_151 q1179 q253 q254 q75 q255 ⟨by decide +kernel, by decide +kernel⟩ rfl (by decide) (by decide) (Nat.le_of_ble_eq_true rfl) (kn_I (fun r47 s48 => ?_)) kx_I
            refine gc_pop hG dX16_does_2_154 rfl ?_
            refine gc_goto hG (tgt := 258) dX16_does_2_155 (by decide) ?_
            refine gc_sub [2, 4] rfl ?_
            exact hj7 x32 s48
        · refine gc_if_ne hG (tgt := 108) dX16_does_2_101 (by decide) ?_ ?_
          · refine gc_iconst hG (nI 1) dX16_does_2_104 (by decide) ?_
            refine gc_goto hG (tgt := 109) dX16_does_2_105 (by decide) ?_
            exact hj34 (nI 1) s31
          · refine gc_iconst hG (nI 0) dX16_does_2_108 (by decide) ?_
            exact hj34 (nI 0) s31
      · refine gc_icmp_ne hG (tgt := 53) dX16_does_2_46 (by decide) ?_ ?_
        · refine gc_iconst hG (-1 : Int32) dX16_does_2_49 (by decide) ?_
          refine gc_goto hG (tgt := 61) dX16_does_2_50 (by decide) ?_
          exact hj16 (-1 : Int32) t
        · refine gc_aload_n hG (v := .ref v0) (refV_a _) dX16_does_2_53 rfl rfl ?_
          refine gc_gd (fun hk => ?_)
          refine gc_get hC (ci := 13) (j := 2) (v := vr (cR t 64 v0)) hk dX16_does_2_54 rfl (by decide) in_X16 q1107 (fun _ h => h) rfl ?_
          refine gc_letr (fun x49 h_ => ?_)
          refine gc_iload_n hG dX16_does_2_57 rfl rfl ?_
          refine gc_iconst hG (nI 1) dX16_does_2_58 (by decide) ?_
          refine gc_iadd hG dX16_does_2_59 ?_
          refine gc_rv (fun a50 h_ => ?_)
          subst h_
          refine gc_gd (fun hk => ?_)
          refine gc_iald hC hk.1 hk.2 dX16_does_2_60 ?_
          refine gc_letv (fun x51 h_ => ?_)
          exact hj16 x51 t
    · refine gc_aload_n hG (v := .ref v0) (refV_a _) dX16_does_2_158 rfl rfl ?_
      refine gc_gd (fun hk => ?_)
      refine gc_get hC (ci := 13) (j := 2) (v := vr (cR t 64 v0)) hk dX16_does_2_159 rfl (by decide) in_X16 q1107 (fun _ h => h) rfl ?_
      refine gc_letr (fun x52 h_ => ?_)
      refine gc_iload_n hG dX16_does_2_162 rfl rfl ?_
      refine gc_iconst hG (nI 1) dX16_does_2_163 (by decide) ?_
      refine gc_iadd hG dX16_does_2_164 ?_
      refine gc_rv (fun a53 h_ => ?_)
      subst h_
      refine gc_gd (fun hk => ?_)
      refine gc_iald hC hk.1 hk.2 dX16_does_2_165 ?_
      refine gc_letv (fun x54 h_ => ?_)
      refine gc_aload_n hG (v := vr v1) (refV_x _) dX16_does_2_166 rfl rfl ?_
      refine gc_rv (fun a55 h_ => ?_)
      subst h_
      refine gc_gd (fun hk => ?_)
      refine gc_getN hC (ci := 1) (j := 1) (v := .int (cI t 7 a55)) hk dX16_does_2_167 rfl (by decide) in_X1 q165 (fun _ h => h) rfl ?_
      refine gc_letv (fun x56 h_ => ?_)
      refine gc_jn (fun j_ => ∀ (x57 : Int32) (t58 : cS), GC X Y (cM Y X 6 t ad0 rVx) (j_ x57 t58) t58 178 [(0, .ref v0), (1, .ref a55), (2, .int v2), (3, .int y1)] [.int x57]) (fun x57 t58 => ?_) (fun j59 hj59 => ?_)
      · refine gc_istore hG dX16_does_2_178 (Nat.le_of_ble_eq_true rfl) (lv' := [(0, _), (1, _), (2, _), (3, _), (4, _)]) rfl ?_
        refine gc_iload hG dX16_does_2_180 rfl ?_
        refine gc_if_eq hG (tgt := 258) dX16_does_2_182 (by decide) ?_ ?_
        · refine gc_sub [2, 4] rfl ?_
          exact hj7 x57 t58
        · refine gc_aload_n hG (v := .ref a55) (refV_a _) dX16_does_2_185 rfl rfl ?_
          refine gc_aload_n hG (v := .ref a55) (refV_a _) dX16_does_2_186 rfl rfl ?_
          refine gc_gd (fun hk => ?_)
          refine gc_getN hC (ci := 1) (j := 0) (v := vr (cR t58 6 a55)) hk dX16_does_2_187 rfl (by decide) in_X1 q161 (fun _ h => h) rfl ?_
          refine gc_letr (fun x60 h_ => ?_)
          refine gc_aload_n hG (v := .ref v0) (refV_a _) dX16_does_2_190 rfl rfl ?_
          refine gc_gd (fun hk => ?_)
          refine gc_get hC (ci := 13) (j := 2) (v := vr (cR t58 64 v0)) hk dX16_does_2_191 rfl (by decide) in_X16 q1107 (fun _ h => h) rfl ?_
          refine gc_letr (fun x61 h_ => ?_)
          refine gc_iload_n hG dX16_does_2_194 rfl rfl ?_
          refine gc_iconst hG (nI 1) dX16_does_2_195 (by decide) ?_
          refine gc_iadd hG dX16_does_2_196 ?_
          refine gc_rv (fun a62 h_ => ?_)
          subst h_
          refine gc_gd (fun hk => ?_)
          refine gc_iald hC hk.1 hk.2 dX16_does_2_197 ?_
          refine gc_letv (fun x63 h_ => ?_)
          refine gc_rv (fun a64 h_ => ?_)
          subst h_
          refine gc_gd (fun hk => ?_)
          refine gc_aald hC hk.1 (by decide) (by decide) (t0 := 3) rfl hk.2 dX16_does_2_198 ?_
          refine gc_letr (fun x65 h_ => ?_)
          refine gc_new hC (ci := 5) tyX7 tyX7_ok rfl in_X7 dX16_does_2_199 q1180 q372 q81 (by decide +kernel) ?_
          refine gc_letS (fun s66 => ?_)
          refine gc_dup hG dX16_does_2_202 rfl ?_
          refine gc_iconst hG (-1 : Int32) dX16_does_2_203 (by decide) ?_
          refine gc_aload_n hG (v := .ref v0) (refV_a _) dX16_does_2_204 rfl rfl ?_
          refine gc_gd (fun hk => ?_)
          refine gc_get hC (ci := 13) (j := 2) (v := vr (cR s66 64 v0)) hk dX16_does_2_205 rfl (by decide) in_X16 q1107 (fun _ h => h) rfl ?_
          refine gc_letr (fun x67 h_ => ?_)
          refine gc_iload_n hG dX16_does_2_208 rfl rfl ?_
          refine gc_iconst hG (nI 2) dX16_does_2_209 (by decide) ?_
          refine gc_iadd hG dX16_does_2_210 ?_
          refine gc_rv (fun a68 h_ => ?_)
          subst h_
          refine gc_gd (fun hk => ?_)
          refine gc_iald hC hk.1 hk.2 dX16_does_2_211 ?_
          refine gc_letv (fun x69 h_ => ?_)
          refine gc_callI (f := fX7_init (cn t58) (-1 : Int32) x69 s66) (As := [.int (-1 : Int32), .int x69]) (rest := [.ref (cn t58), vr x65, .ref a55]) (n := 2) (d' := 2) (b := (cn t58)) hC hnL (wX7_init (gLn X) Y hl hY (cn t58) (-1 : Int32) x69 s66) dX16_does_2_212 q1181 q374 q81 q375 ⟨by decide +kernel, by decide +kernel⟩ rfl rfl (by decide) (by decide) (by simp [cat_vr, cat_r, cat_i, cat_n]) (kn_V (fun r70 s71 => ?_)) kx_V
          refine gc_gd (fun hk => ?_)
          refine gc_callV (f := fX1_sends a55 x65 (some (cn t58)) s71) (As := [vr x65, .ref (cn t58)]) (rest := []) (n := 2) (d' := 3) (b := a55) hC hnL (wX1_sends (gLn X) Y hl hY a55 x65 (some (cn t58)) s71) hk (ci := 1) rfl dX16_does_2_215 q1182 q391 q392 q75 q393 ⟨by decide +kernel, by decide +kernel⟩ rfl (by decide) (by decide) (Nat.le_of_ble_eq_true rfl) (kn_I (fun r72 s73 => ?_)) kx_I
          refine gc_pop hG dX16_does_2_218 rfl ?_
          refine gc_goto hG (tgt := 258) dX16_does_2_219 (by decide) ?_
          refine gc_sub [2, 4] rfl ?_
          exact hj7 x57 s73
      · refine gc_icmp_ge hG (tgt := 177) dX16_does_2_170 (by decide) ?_ ?_
        · refine gc_iconst hG (nI 1) dX16_does_2_173 (by decide) ?_
          refine gc_goto hG (tgt := 178) dX16_does_2_174 (by decide) ?_
          exact hj59 (nI 1) t
        · refine gc_iconst hG (nI 0) dX16_does_2_177 (by decide) ?_
          exact hj59 (nI 0) t
    · refine gc_aload_n hG (v := .ref v0) (refV_a _) dX16_does_2_222 rfl rfl ?_
      refine gc_gd (fun hk => ?_)
      refine gc_get hC (ci := 13) (j := 2) (v := vr (cR t 64 v0)) hk dX16_does_2_223 rfl (by decide) in_X16 q1107 (fun _ h => h) rfl ?_
      refine gc_letr (fun x74 h_ => ?_)
      refine gc_iload_n hG dX16_does_2_226 rfl rfl ?_
      refine gc_iconst hG (nI 1) dX16_does_2_227 (by decide) ?_
      refine gc_iadd hG dX16_does_2_228 ?_
      refine gc_rv (fun a75 h_ => ?_)
      subst h_
      refine gc_gd (fun hk => ?_)
      refine gc_iald hC hk.1 hk.2 dX16_does_2_229 ?_
      refine gc_letv (fun x76 h_ => ?_)
      refine gc_jn (fun j_ => ∀ (x77 : Int32) (t78 : cS), GC X Y (cM Y X 6 t ad0 rVx) (j_ x77 t78) t78 238 [(0, .ref v0), (1, vr v1), (2, .int v2), (3, .int y1)] [.int x77]) (fun x77 t78 => ?_) (fun j79 hj79 => ?_)
      · refine gc_istore hG dX16_does_2_238 (Nat.le_of_ble_eq_true rfl) (lv' := [(0, _), (1, _), (2, _), (3, _), (4, _)]) rfl ?_
        refine gc_iload hG dX16_does_2_240 rfl ?_
        refine gc_if_eq hG (tgt := 258) dX16_does_2_242 (by decide) ?_ ?_
        · refine gc_sub [2, 4] rfl ?_
          exact hj7 x77 t78
        · refine gc_aload_n hG (v := vr v1) (refV_x _) dX16_does_2_245 rfl rfl ?_
          refine gc_aload_n hG (v := .ref v0) (refV_a _) dX16_does_2_246 rfl rfl ?_
          refine gc_gd (fun hk => ?_)
          refine gc_get hC (ci := 13) (j := 2) (v := vr (cR t78 64 v0)) hk dX16_does_2_247 rfl (by decide) in_X16 q1107 (fun _ h => h) rfl ?_
          refine gc_letr (fun x80 h_ => ?_)
          refine gc_iload_n hG dX16_does_2_250 rfl rfl ?_
          refine gc_iconst hG (nI 1) dX16_does_2_251 (by decide) ?_
          refine gc_iadd hG dX16_does_2_252 ?_
          refine gc_rv (fun a81 h_ => ?_)
          subst h_
          refine gc_gd (fun hk => ?_)
          refine gc_iald hC hk.1 hk.2 dX16_does_2_253 ?_
          refine gc_letv (fun x82 h_ => ?_)
          refine gc_rv (fun a83 h_ => ?_)
          subst h_
          refine gc_gd (fun hk => ?_)
          refine gc_callV (f := fX1_runs a83 x82 t78) (As := [.int x82]) (rest := []) (n := 1) (d' := 38) (b := a83) hC hnL (wX1_runs (gLn X) Y hl hY a83 x82 t78) hk (ci := 1) rfl dX16_does_2_254 q1183 q691 q692 q75 q693 ⟨by decide +kernel, by decide +kernel⟩ rfl (by decide) (by decide) (Nat.le_of_ble_eq_true rfl) (kn_I (fun r84 s85 => ?_)) kx_I
          refine gc_pop hG dX16_does_2_257 rfl ?_
          refine gc_sub [2, 4] rfl ?_
          exact hj7 x77 s85
      · refine gc_if_le hG (tgt := 237) dX16_does_2_230 (by decide) ?_ ?_
        · refine gc_iconst hG (nI 1) dX16_does_2_233 (by decide) ?_
          refine gc_goto hG (tgt := 238) dX16_does_2_234 (by decide) ?_
          exact hj79 (nI 1) t
        · refine gc_iconst hG (nI 0) dX16_does_2_237 (by decide) ?_
          exact hj79 (nI 0) t
def fX16_does_L2 (v0 : Nat) (v1 : Option Nat) (kx : cS → Option ((Unit ⊕ Nat) × cS)) : Nat → Int32 → cS → Option ((Unit ⊕ Nat) × cS)
  | 0, _, _ => none
  | k + 1, v2, t =>
    gd (cK t v0 = 14) (
    letv (cI t 65 v0) (fun x1 =>
    if v2 < x1 then
      gd (cK t v0 = 14) (
      obx (fX16_does_2 v0 v1 v2 t) (fun r2 s3 =>
        letv (v2 + (nI 1)) (fun y4 =>
        fX16_does_L2 v0 v1 kx k y4 s3
        )
      ) (fun e5 s6 =>
        gd (cK s6 e5 = 15) (
        some (.inr e5, s6)
        )
      )
      )
    else
      kx t
    )
    )
theorem mfX16_does_L2 (v0 : Nat) (v1 : Option Nat) (kx : cS → Option ((Unit ⊕ Nat) × cS)) (hkx : ∀  (t : cS), MO t (kx t)) : ∀ (k : Nat) (v2 : Int32) (t : cS), MO t (fX16_does_L2 v0 v1 kx k v2 t) := by
  intro k
  induction k with
  | zero => intro v2 t; exact mo_none
  | succ k ih =>
    intro v2 t
    rw [fX16_does_L2]
    refine mo_gd ?_
    refine mo_letv (fun _ => ?_)
    refine mo_ite ?_ ?_
    · refine mo_gd ?_
      refine mo_obx (by apply mfX16_does_2) (fun _ _ => ?_) (fun _ _ => ?_)
      · refine mo_letv (fun _ => ?_)
        exact ih _ _
      · refine mo_gd ?_
        exact mo_some
    · exact hkx _
set_option maxHeartbeats 4000000 in
theorem gfX16_does_L2 {X : gCx} {Y : cY} {s0 : cS} {ad0 : Nat → Nat} (hC : cOk X Y RX16 cX16_does 40) (hl : (gLn X).stackTraces = false) (hY : ∀ q, q < Y.2.2.2.2.size → ¬ Y.2.2.2.1 q) (hnL : gLoc X = 3) (hrt : gRet X = none) (hnm : X.2.2.2.2.2.2.2.2.1.name = "does") (hT : gTab X = []) (hmd : (gSt X).methodNamed? yX16_does = some (gMe X)) (v0 : Nat) (v1 : Option Nat) (kx : cS → Option ((Unit ⊕ Nat) × cS)) (hkx : ∀  (t : cS), GC X Y (cM Y X 3 s0 ad0 rVx) (kx t) t 22 [] []) : ∀ (k : Nat) (v2 : Int32) (t : cS), GC X Y (cM Y X 3 s0 ad0 rVx) (fX16_does_L2 v0 v1 kx k v2 t) t 2 [(0, .ref v0), (1, vr v1), (2, .int v2)] [] := by
  have hG := hC.1
  intro k
  induction k with
  | zero => intro v2 t; exact gc_none
  | succ k ih =>
    intro v2 t
    rw [fX16_does_L2]
    refine gc_iload_n hG dX16_does_2 rfl rfl ?_
    refine gc_aload_n hG (v := .ref v0) (refV_a _) dX16_does_3 rfl rfl ?_
    refine gc_gd (fun hk => ?_)
    refine gc_get hC (ci := 13) (j := 3) (v := .int (cI t 65 v0)) hk dX16_does_4 rfl (by decide) in_X16 q1108 (fun _ h => h) rfl ?_
    refine gc_letv (fun x1 h_ => ?_)
    refine gc_icmp_ge hG (tgt := 22) dX16_does_7 (by decide) ?_ ?_
    · refine gc_aload_n hG (v := .ref v0) (refV_a _) dX16_does_10 rfl rfl ?_
      refine gc_aload_n hG (v := vr v1) (refV_x _) dX16_does_11 rfl rfl ?_
      refine gc_iload_n hG dX16_does_12 rfl rfl ?_
      refine gc_gd (fun hk => ?_)
      refine gc_callV (f := fX16_does_2 v0 v1 v2 t) (As := [vr v1, .int v2]) (rest := []) (n := 2) (d' := 39) (b := v0) hC hnL (wX16_does_2 (gLn X) Y hl hY v0 v1 v2 t) hk (ci := 13) rfl dX16_does_13 q1174 q1176 qs29 q102 q1177 ⟨by decide +kernel, by decide +kernel⟩ rfl (by decide) (by decide) (Nat.le_of_ble_eq_true rfl) (kn_Vx (fun r2 s3 => ?_)) (kx_Vx (fun e5 s6 => ?_))
      · refine gc_letiinc hG (c := (nI 1)) (lv' := fun y4 => [(0, .ref v0), (1, vr v1), (2, .int y4)]) dX16_does_16 rfl (by decide) (Nat.le_of_ble_eq_true rfl) (fun _ => rfl) (fun y4 => ?_)
        refine gc_goto hG (tgt := 2) dX16_does_19 (by decide) ?_
        exact ih y4 s3
      · refine gx_gd (fun hk => ?_)
        exact gx_outR hC hk (ci := 14) rfl rfl (by rw [hT]; intro z hz; cases hz)
    · refine gc_sub [] rfl ?_
      exact hkx t
def fX16_does (v0 : Nat) (v1 : Option Nat) (t : cS) : Option ((Unit ⊕ Nat) × cS) :=
  fX16_does_L2 v0 v1 (fun  (t7 : cS) =>
    (some ((.inl ()), t7))
    ) FU (nI 0) t
theorem mfX16_does (v0 : Nat) (v1 : Option Nat) (t : cS) : MO t (fX16_does v0 v1 t) := by
  unfold fX16_does
  refine mfX16_does_L2 _ _ _ (fun _ => ?_) _ _ _
  exact mo_some
set_option maxHeartbeats 4000000 in
theorem wX16_does (l : Launch) (Y : cY) (hl : l.stackTraces = false) (hY : ∀ q, q < Y.2.2.2.2.size → ¬ Y.2.2.2.1 q) (v0 : Nat) (v1 : Option Nat) (t : cS) : cFn l Y yX16_does (ws_ yX16_does cX16_does 3 none) 40 [.ref v0, vr v1] t (fX16_does v0 v1 t) rVx := by
  refine cmet (av := [.ref v0, vr v1]) (mfX16_does v0 v1 t) hl hY (by decide +kernel) (lg_le (List.forall_mem_cons.mpr ⟨rfl, List.forall_mem_cons.mpr ⟨(cat_vr _), fun _ h => absurd h List.not_mem_nil⟩⟩) (Nat.le_of_ble_eq_true rfl)) (lv_args_cat (List.forall_mem_cons.mpr ⟨rfl, List.forall_mem_cons.mpr ⟨(cat_vr _), fun _ h => absurd h List.not_mem_nil⟩⟩)) ?_
  intro X ad0 hln hC hnL hrt hnm hT hmd
  subst hln
  have hG := hC.1
  rw [lv_args_s (List.forall_mem_cons.mpr ⟨rfl, List.forall_mem_cons.mpr ⟨(cat_vr _), fun _ h => absurd h List.not_mem_nil⟩⟩)]
  show GC X Y (cM Y X 3 t ad0 rVx) _ t 0 [(0, .ref v0), (1, vr v1)] []
  unfold fX16_does
  refine gc_iconst hG (nI 0) dX16_does_0 (by decide) ?_
  refine gc_istore_n hG dX16_does_1 rfl (Nat.le_of_ble_eq_true rfl) (lv' := [(0, _), (1, _), (2, _)]) rfl ?_
  refine gfX16_does_L2 (s0 := t) (ad0 := ad0) hC hl hY hnL hrt hnm hT hmd v0 v1  _ (fun t7 => ?_) FU (nI 0) t
  exact gc_vret hC hrt rfl dX16_does_22
def fX16_init (v0 : Nat) (v1 : Option Nat) (v2 : Int32) (t : cS) : Option (Unit × cS) :=
  letv (sN t 20 720 720) (fun s1 =>
  gd (cK s1 v0 = 14) (
  letv (sR s1 64 v0 (some (cn t))) (fun s2 =>
  gd (cK s2 v0 = 14) (
  letv (sR s2 62 v0 v1) (fun s3 =>
  gd (cK s3 v0 = 14) (
  letv (sI s3 63 v0 v2) (fun s4 =>
  (some ((), s4))
  )
  )
  )
  )
  )
  )
  )
theorem mfX16_init (v0 : Nat) (v1 : Option Nat) (v2 : Int32) (t : cS) : MO t (fX16_init v0 v1 v2 t) := by
  unfold fX16_init
  refine mo_letS cMo_sN (fun _ => ?_)
  refine mo_gd ?_
  refine mo_letS cMo_sR (fun _ => ?_)
  refine mo_gd ?_
  refine mo_letS cMo_sR (fun _ => ?_)
  refine mo_gd ?_
  refine mo_letS cMo_sI (fun _ => ?_)
  exact mo_some
set_option maxHeartbeats 4000000 in
theorem wX16_init (l : Launch) (Y : cY) (hl : l.stackTraces = false) (hY : ∀ q, q < Y.2.2.2.2.size → ¬ Y.2.2.2.1 q) (v0 : Nat) (v1 : Option Nat) (v2 : Int32) (t : cS) : cFn l Y yX16_init (ws_ yX16_init cX16_init 3 none) 1 [.ref v0, vr v1, .int v2] t (fX16_init v0 v1 v2 t) rV := by
  refine cmet (av := [.ref v0, vr v1, .int v2]) (mfX16_init v0 v1 v2 t) hl hY (by decide +kernel) (lg_le (List.forall_mem_cons.mpr ⟨rfl, List.forall_mem_cons.mpr ⟨(cat_vr _), List.forall_mem_cons.mpr ⟨rfl, fun _ h => absurd h List.not_mem_nil⟩⟩⟩) (Nat.le_of_ble_eq_true rfl)) (lv_args_cat (List.forall_mem_cons.mpr ⟨rfl, List.forall_mem_cons.mpr ⟨(cat_vr _), List.forall_mem_cons.mpr ⟨rfl, fun _ h => absurd h List.not_mem_nil⟩⟩⟩)) ?_
  intro X ad0 hln hC hnL hrt hnm hT hmd
  subst hln
  have hG := hC.1
  rw [lv_args_s (List.forall_mem_cons.mpr ⟨rfl, List.forall_mem_cons.mpr ⟨(cat_vr _), List.forall_mem_cons.mpr ⟨rfl, fun _ h => absurd h List.not_mem_nil⟩⟩⟩)]
  show GC X Y (cM Y X 3 t ad0 rV) _ t 0 [(0, .ref v0), (1, vr v1), (2, .int v2)] []
  unfold fX16_init
  refine gc_aload_n hG (v := .ref v0) (refV_a _) dX16_init_0 rfl rfl ?_
  refine gc_objInit hC hnL q1104 q113 q114 dX16_init_1 (Nat.le_of_ble_eq_true rfl) ?_
  refine gc_aload_n hG (v := .ref v0) (refV_a _) dX16_init_4 rfl rfl ?_
  refine gc_sipush hG (nI 720) dX16_init_5 (by decide) ?_
  refine gc_newI hC (N := 720) (by decide) (by decide) (by decide) q157 dX16_init_8 ?_
  refine gc_letS (fun s1 => ?_)
  refine gc_gd (fun hk => ?_)
  have pt := pt_R (s := s1) (f := 64) (a := v0) (x := (some (cn t))) rfl
  refine gc_putF hC tyX16 tyX16_ok nmX16 hk dX16_init_10 (ci := 13) (j := 2) (Or.inl (by decide)) rfl (by decide) in_X16 q1107 (fun _ h => h) rfl (by rw [hnm]; rfl) rfl (tyX16_ok 2 (by decide)) (nar_a (some (cn t))) (fit_a (some (cn t))) pt.1.1 pt.1.2.1 pt.1.2.2.1 pt.1.2.2.2 pt.2.1 pt.2.2.1 pt.2.2.2 ?_
  refine gc_letS (fun s2 => ?_)
  refine gc_aload_n hG (v := .ref v0) (refV_a _) dX16_init_13 rfl rfl ?_
  refine gc_aload_n hG (v := vr v1) (refV_x _) dX16_init_14 rfl rfl ?_
  refine gc_gd (fun hk => ?_)
  have pt := pt_R (s := s2) (f := 62) (a := v0) (x := v1) rfl
  refine gc_putF hC tyX16 tyX16_ok nmX16 hk dX16_init_15 (ci := 13) (j := 0) (Or.inl (by decide)) rfl (by decide) in_X16 q1105 (fun _ h => h) rfl (by rw [hnm]; rfl) rfl (tyX16_ok 0 (by decide)) (nar_a v1) (fit_a v1) pt.1.1 pt.1.2.1 pt.1.2.2.1 pt.1.2.2.2 pt.2.1 pt.2.2.1 pt.2.2.2 ?_
  refine gc_letS (fun s3 => ?_)
  refine gc_aload_n hG (v := .ref v0) (refV_a _) dX16_init_18 rfl rfl ?_
  refine gc_iload_n hG dX16_init_19 rfl rfl ?_
  refine gc_gd (fun hk => ?_)
  have pt := pt_I (s := s3) (f := 63) (a := v0) (x := v2) rfl
  refine gc_putF hC tyX16 tyX16_ok nmX16 hk dX16_init_20 (ci := 13) (j := 1) (Or.inl (by decide)) rfl (by decide) in_X16 q1106 (fun _ h => h) rfl (by rw [hnm]; rfl) rfl (tyX16_ok 1 (by decide)) (fun _ => rfl) (fun _ => rfl) pt.1.1 pt.1.2.1 pt.1.2.2.1 pt.1.2.2.2 pt.2.1 pt.2.2.1 pt.2.2.2 ?_
  refine gc_letS (fun s4 => ?_)
  exact gc_vret hC hrt rfl dX16_init_23
def fX16_sign (v0 : Nat) (t : cS) : Option (Int32 × cS) :=
  gd (cK t v0 = 14) (
  letv (cI t 66 v0) (fun x1 =>
  gd (cK t v0 = 14) (
  letv (cI t 63 v0) (fun x2 =>
  if x1 < x2 then
    gd (cK t v0 = 14) (
    letv (cR t 62 v0) (fun x3 =>
    gd (cK t v0 = 14) (
    letv (cI t 66 v0) (fun x4 =>
    rv x3 (fun a5 =>
    gd (cK t a5 = 21 ∧ cIn t a5 x4) (
    letv (cI t (ei (x4).toNatClampNeg) a5) (fun x6 =>
    (some (((x6 &&& (nI 255))), t))
    )
    )
    )
    )
    )
    )
    )
  else
    (some ((-1 : Int32), t))
  )
  )
  )
  )
theorem mfX16_sign (v0 : Nat) (t : cS) : MO t (fX16_sign v0 t) := by
  unfold fX16_sign
  refine mo_gd ?_
  refine mo_letv (fun _ => ?_)
  refine mo_gd ?_
  refine mo_letv (fun _ => ?_)
  refine mo_ite ?_ ?_
  · refine mo_gd ?_
    refine mo_letv (fun _ => ?_)
    refine mo_gd ?_
    refine mo_letv (fun _ => ?_)
    refine mo_rv (fun _ => ?_)
    refine mo_gd ?_
    refine mo_letv (fun _ => ?_)
    exact mo_some
  · exact mo_some
set_option maxHeartbeats 4000000 in
theorem wX16_sign (l : Launch) (Y : cY) (hl : l.stackTraces = false) (hY : ∀ q, q < Y.2.2.2.2.size → ¬ Y.2.2.2.1 q) (v0 : Nat) (t : cS) : cFn l Y yX16_sign (ws_ yX16_sign cX16_sign 1 (some .int)) 1 [.ref v0] t (fX16_sign v0 t) rI := by
  refine cmet (av := [.ref v0]) (mfX16_sign v0 t) hl hY (by decide +kernel) (lg_le (List.forall_mem_cons.mpr ⟨rfl, fun _ h => absurd h List.not_mem_nil⟩) (Nat.le_of_ble_eq_true rfl)) (lv_args_cat (List.forall_mem_cons.mpr ⟨rfl, fun _ h => absurd h List.not_mem_nil⟩)) ?_
  intro X ad0 hln hC hnL hrt hnm hT hmd
  subst hln
  have hG := hC.1
  rw [lv_args_s (List.forall_mem_cons.mpr ⟨rfl, fun _ h => absurd h List.not_mem_nil⟩)]
  show GC X Y (cM Y X 1 t ad0 rI) _ t 0 [(0, .ref v0)] []
  unfold fX16_sign
  refine gc_aload_n hG (v := .ref v0) (refV_a _) dX16_sign_0 rfl rfl ?_
  refine gc_gd (fun hk => ?_)
  refine gc_get hC (ci := 13) (j := 4) (v := .int (cI t 66 v0)) hk dX16_sign_1 rfl (by decide) in_X16 q1110 (fun _ h => h) rfl ?_
  refine gc_letv (fun x1 h_ => ?_)
  refine gc_aload_n hG (v := .ref v0) (refV_a _) dX16_sign_4 rfl rfl ?_
  refine gc_gd (fun hk => ?_)
  refine gc_get hC (ci := 13) (j := 1) (v := .int (cI t 63 v0)) hk dX16_sign_5 rfl (by decide) in_X16 q1106 (fun _ h => h) rfl ?_
  refine gc_letv (fun x2 h_ => ?_)
  refine gc_icmp_ge hG (tgt := 27) dX16_sign_8 (by decide) ?_ ?_
  · refine gc_aload_n hG (v := .ref v0) (refV_a _) dX16_sign_11 rfl rfl ?_
    refine gc_gd (fun hk => ?_)
    refine gc_get hC (ci := 13) (j := 0) (v := vr (cR t 62 v0)) hk dX16_sign_12 rfl (by decide) in_X16 q1105 (fun _ h => h) rfl ?_
    refine gc_letr (fun x3 h_ => ?_)
    refine gc_aload_n hG (v := .ref v0) (refV_a _) dX16_sign_15 rfl rfl ?_
    refine gc_gd (fun hk => ?_)
    refine gc_get hC (ci := 13) (j := 4) (v := .int (cI t 66 v0)) hk dX16_sign_16 rfl (by decide) in_X16 q1110 (fun _ h => h) rfl ?_
    refine gc_letv (fun x4 h_ => ?_)
    refine gc_rv (fun a5 h_ => ?_)
    subst h_
    refine gc_gd (fun hk => ?_)
    refine gc_bald hC hk.1 hk.2 dX16_sign_19 ?_
    refine gc_letv (fun x6 h_ => ?_)
    refine gc_sipush hG (nI 255) dX16_sign_20 (by decide) ?_
    refine gc_iand hG dX16_sign_23 ?_
    refine gc_goto hG (tgt := 28) dX16_sign_24 (by decide) ?_
    exact gc_iret hC hrt rfl rfl dX16_sign_28
  · refine gc_iconst hG (-1 : Int32) dX16_sign_27 (by decide) ?_
    exact gc_iret hC hrt rfl rfl dX16_sign_28
