/-! the component: walks, by program (gen/cgen.py) -/
def fX2_init (v0 : Nat) (v1 : Int32) (t : cS) : Option (Unit × cS) :=
  gd (cK t v0 = 3) (
  letv (sI t 21 v0 v1) (fun s1 =>
  (some ((), s1))
  )
  )
theorem mfX2_init (v0 : Nat) (v1 : Int32) (t : cS) : MO t (fX2_init v0 v1 t) := by
  unfold fX2_init
  refine mo_gd ?_
  refine mo_letS cMo_sI (fun _ => ?_)
  exact mo_some
set_option maxHeartbeats 4000000 in
theorem wX2_init (l : Launch) (Y : cY) (hl : l.stackTraces = false) (hY : ∀ q, q < Y.2.2.2.2.size → ¬ Y.2.2.2.1 q) (v0 : Nat) (v1 : Int32) (t : cS) : cFn l Y yX2_init (ws_ yX2_init cX2_init 2 none) 1 [.ref v0, .int v1] t (fX2_init v0 v1 t) rV := by
  refine cmet (av := [.ref v0, .int v1]) (mfX2_init v0 v1 t) hl hY (by decide +kernel) (lg_le (List.forall_mem_cons.mpr ⟨rfl, List.forall_mem_cons.mpr ⟨rfl, fun _ h => absurd h List.not_mem_nil⟩⟩) (Nat.le_of_ble_eq_true rfl)) (lv_args_cat (List.forall_mem_cons.mpr ⟨rfl, List.forall_mem_cons.mpr ⟨rfl, fun _ h => absurd h List.not_mem_nil⟩⟩)) ?_
  intro X ad0 hln hC hnL hrt hnm hT hmd
  subst hln
  have hG := hC.1
  rw [lv_args_s (List.forall_mem_cons.mpr ⟨rfl, List.forall_mem_cons.mpr ⟨rfl, fun _ h => absurd h List.not_mem_nil⟩⟩)]
  show GC X Y (cM Y X 2 t ad0 rV) _ t 0 [(0, .ref v0), (1, .int v1)] []
  unfold fX2_init
  refine gc_aload_n hG (v := .ref v0) (refV_a _) dX2_init_0 rfl rfl ?_
  refine gc_objInit hC hnL q128 q113 q114 dX2_init_1 (Nat.le_of_ble_eq_true rfl) ?_
  refine gc_aload_n hG (v := .ref v0) (refV_a _) dX2_init_4 rfl rfl ?_
  refine gc_iload_n hG dX2_init_5 rfl rfl ?_
  refine gc_gd (fun hk => ?_)
  have pt := pt_I (s := t) (f := 21) (a := v0) (x := v1) rfl
  refine gc_putF hC tyX2 tyX2_ok nmX2 hk dX2_init_6 (ci := 2) (j := 0) (Or.inl (by decide)) rfl (by decide) in_X2 q129 (fun _ h => h) rfl (by rw [hnm]; rfl) rfl (tyX2_ok 0 (by decide)) (fun _ => rfl) (fun _ => rfl) pt.1.1 pt.1.2.1 pt.1.2.2.1 pt.1.2.2.2 pt.2.1 pt.2.2.1 pt.2.2.2 ?_
  refine gc_letS (fun s1 => ?_)
  exact gc_vret hC hrt rfl dX2_init_9
def fX3_init (v0 : Nat) (v1 : Option Nat) (t : cS) : Option (Unit × cS) :=
  gd (cK t v0 = 4) (
  letv (sR t 25 v0 v1) (fun s1 =>
  (some ((), s1))
  )
  )
theorem mfX3_init (v0 : Nat) (v1 : Option Nat) (t : cS) : MO t (fX3_init v0 v1 t) := by
  unfold fX3_init
  refine mo_gd ?_
  refine mo_letS cMo_sR (fun _ => ?_)
  exact mo_some
set_option maxHeartbeats 4000000 in
theorem wX3_init (l : Launch) (Y : cY) (hl : l.stackTraces = false) (hY : ∀ q, q < Y.2.2.2.2.size → ¬ Y.2.2.2.1 q) (v0 : Nat) (v1 : Option Nat) (t : cS) : cFn l Y yX3_init (ws_ yX3_init cX3_init 2 none) 1 [.ref v0, vr v1] t (fX3_init v0 v1 t) rV := by
  refine cmet (av := [.ref v0, vr v1]) (mfX3_init v0 v1 t) hl hY (by decide +kernel) (lg_le (List.forall_mem_cons.mpr ⟨rfl, List.forall_mem_cons.mpr ⟨(cat_vr _), fun _ h => absurd h List.not_mem_nil⟩⟩) (Nat.le_of_ble_eq_true rfl)) (lv_args_cat (List.forall_mem_cons.mpr ⟨rfl, List.forall_mem_cons.mpr ⟨(cat_vr _), fun _ h => absurd h List.not_mem_nil⟩⟩)) ?_
  intro X ad0 hln hC hnL hrt hnm hT hmd
  subst hln
  have hG := hC.1
  rw [lv_args_s (List.forall_mem_cons.mpr ⟨rfl, List.forall_mem_cons.mpr ⟨(cat_vr _), fun _ h => absurd h List.not_mem_nil⟩⟩)]
  show GC X Y (cM Y X 2 t ad0 rV) _ t 0 [(0, .ref v0), (1, vr v1)] []
  unfold fX3_init
  refine gc_aload_n hG (v := .ref v0) (refV_a _) dX3_init_0 rfl rfl ?_
  refine gc_aload_n hG (v := vr v1) (refV_x _) dX3_init_1 rfl rfl ?_
  refine gc_gd (fun hk => ?_)
  have pt := pt_R (s := t) (f := 25) (a := v0) (x := v1) rfl
  refine gc_putF hC tyX3 tyX3_ok nmX3 hk dX3_init_2 (ci := 3) (j := 0) (Or.inl (by decide)) rfl (by decide) in_X3 q153 (fun _ h => h) rfl (by rw [hnm]; rfl) rfl (tyX3_ok 0 (by decide)) (nar_o v1) (fit_o v1) pt.1.1 pt.1.2.1 pt.1.2.2.1 pt.1.2.2.2 pt.2.1 pt.2.2.1 pt.2.2.2 ?_
  refine gc_letS (fun s1 => ?_)
  refine gc_aload_n hG (v := .ref v0) (refV_a _) dX3_init_5 rfl rfl ?_
  refine gc_objInit hC hnL q152 q113 q114 dX3_init_6 (Nat.le_of_ble_eq_true rfl) ?_
  exact gc_vret hC hrt rfl dX3_init_9
def fX1_init (v0 : Nat) (t : cS) : Option (Unit × cS) :=
  letv (sN t 23 12 12) (fun s1 =>
  gd (cK s1 v0 = 2) (
  letv (sR s1 6 v0 (some (cn t))) (fun s2 =>
  gd (cK s2 v0 = 2) (
  letv (sI s2 8 v0 (-1 : Int32)) (fun s3 =>
  letv (sN s3 3 0 4) (fun s4 =>
  ob (fX2_init (cn s3) (nI 10) s4) (fun r5 s6 =>
  gd (cK s6 v0 = 2) (
  letv (sR s6 12 v0 (some (cn s3))) (fun s7 =>
  gd (cK s7 v0 = 2) (
  letv (sI s7 13 v0 (nI 1)) (fun s8 =>
  letv (sN s8 20 30 30) (fun s9 =>
  gd (cK s9 v0 = 2) (
  letv (sR s9 14 v0 (some (cn s8))) (fun s10 =>
  letv (sN s10 4 0 1) (fun s11 =>
  ob (fX3_init (cn s10) (some v0) s11) (fun r12 s13 =>
  gd (cK s13 v0 = 2) (
  letv (sR s13 20 v0 (some (cn s10))) (fun s14 =>
  (some ((), s14))
  )
  )
  )
  )
  )
  )
  )
  )
  )
  )
  )
  )
  )
  )
  )
  )
  )
  )
theorem mfX1_init (v0 : Nat) (t : cS) : MO t (fX1_init v0 t) := by
  unfold fX1_init
  refine mo_letS cMo_sN (fun _ => ?_)
  refine mo_gd ?_
  refine mo_letS cMo_sR (fun _ => ?_)
  refine mo_gd ?_
  refine mo_letS cMo_sI (fun _ => ?_)
  refine mo_letS cMo_sN (fun _ => ?_)
  refine mo_ob (by apply mfX2_init) (fun _ _ => ?_)
  refine mo_gd ?_
  refine mo_letS cMo_sR (fun _ => ?_)
  refine mo_gd ?_
  refine mo_letS cMo_sI (fun _ => ?_)
  refine mo_letS cMo_sN (fun _ => ?_)
  refine mo_gd ?_
  refine mo_letS cMo_sR (fun _ => ?_)
  refine mo_letS cMo_sN (fun _ => ?_)
  refine mo_ob (by apply mfX3_init) (fun _ _ => ?_)
  refine mo_gd ?_
  refine mo_letS cMo_sR (fun _ => ?_)
  exact mo_some
set_option maxHeartbeats 4000000 in
theorem wX1_init (l : Launch) (Y : cY) (hl : l.stackTraces = false) (hY : ∀ q, q < Y.2.2.2.2.size → ¬ Y.2.2.2.1 q) (v0 : Nat) (t : cS) : cFn l Y yX1_init (ws_ yX1_init cX1_init 1 none) 2 [.ref v0] t (fX1_init v0 t) rV := by
  refine cmet (av := [.ref v0]) (mfX1_init v0 t) hl hY (by decide +kernel) (lg_le (List.forall_mem_cons.mpr ⟨rfl, fun _ h => absurd h List.not_mem_nil⟩) (Nat.le_of_ble_eq_true rfl)) (lv_args_cat (List.forall_mem_cons.mpr ⟨rfl, fun _ h => absurd h List.not_mem_nil⟩)) ?_
  intro X ad0 hln hC hnL hrt hnm hT hmd
  subst hln
  have hG := hC.1
  rw [lv_args_s (List.forall_mem_cons.mpr ⟨rfl, fun _ h => absurd h List.not_mem_nil⟩)]
  show GC X Y (cM Y X 1 t ad0 rV) _ t 0 [(0, .ref v0)] []
  unfold fX1_init
  refine gc_aload_n hG (v := .ref v0) (refV_a _) dX1_init_0 rfl rfl ?_
  refine gc_objInit hC hnL q120 q113 q114 dX1_init_1 (Nat.le_of_ble_eq_true rfl) ?_
  refine gc_aload_n hG (v := .ref v0) (refV_a _) dX1_init_4 rfl rfl ?_
  refine gc_bipush hG (nI 12) dX1_init_5 (by decide) ?_
  refine gc_newQ hC (k := 23) (N := 12) (by decide) (by decide) (t0 := 3) rfl (by decide) (by decide) (by decide) q121 hC.2.1.2.2.2.1 dX1_init_7 ?_
  refine gc_letS (fun s1 => ?_)
  refine gc_gd (fun hk => ?_)
  have pt := pt_R (s := s1) (f := 6) (a := v0) (x := (some (cn t))) rfl
  refine gc_putF hC tyX1 tyX1_ok nmX1 hk dX1_init_10 (ci := 1) (j := 0) (Or.inl (by decide)) rfl (by decide) in_X1 q158 (fun _ h => h) rfl (by rw [hnm]; rfl) rfl (tyX1_ok 0 (by decide)) (nar_a (some (cn t))) (fit_a (some (cn t))) pt.1.1 pt.1.2.1 pt.1.2.2.1 pt.1.2.2.2 pt.2.1 pt.2.2.1 pt.2.2.2 ?_
  refine gc_letS (fun s2 => ?_)
  refine gc_aload_n hG (v := .ref v0) (refV_a _) dX1_init_13 rfl rfl ?_
  refine gc_iconst hG (-1 : Int32) dX1_init_14 (by decide) ?_
  refine gc_gd (fun hk => ?_)
  have pt := pt_I (s := s2) (f := 8) (a := v0) (x := (-1 : Int32)) rfl
  refine gc_put hC tyX1 tyX1_ok nmX1 hk dX1_init_15 (ci := 1) (j := 2) (Or.inl (by decide)) rfl (by decide) in_X1 q166 (fun _ h => h) rfl (tyX1_ok 2 (by decide)) (fun _ => rfl) (fun _ => rfl) pt.1.1 pt.1.2.1 pt.1.2.2.1 pt.1.2.2.2 pt.2.1 pt.2.2.1 pt.2.2.2 ?_
  refine gc_letS (fun s3 => ?_)
  refine gc_aload_n hG (v := .ref v0) (refV_a _) dX1_init_18 rfl rfl ?_
  refine gc_new hC (ci := 2) tyX2 tyX2_ok rfl in_X2 dX1_init_19 q123 q124 q76 (by decide +kernel) ?_
  refine gc_letS (fun s4 => ?_)
  refine gc_dup hG dX1_init_22 rfl ?_
  refine gc_bipush hG (nI 10) dX1_init_23 (by decide) ?_
  refine gc_callI (f := fX2_init (cn s3) (nI 10) s4) (As := [.int (nI 10)]) (rest := [.ref (cn s3), .ref v0]) (n := 1) (d' := 1) (b := (cn s3)) hC hnL (wX2_init (gLn X) Y hl hY (cn s3) (nI 10) s4) dX1_init_25 q125 q126 q76 q127 ⟨by decide +kernel, by decide +kernel⟩ rfl rfl (by decide) (by decide) (Nat.le_of_ble_eq_true rfl) (kn_V (fun r5 s6 => ?_)) kx_V
  refine gc_gd (fun hk => ?_)
  have pt := pt_R (s := s6) (f := 12) (a := v0) (x := (some (cn s3))) rfl
  refine gc_putF hC tyX1 tyX1_ok nmX1 hk dX1_init_28 (ci := 1) (j := 6) (Or.inl (by decide)) rfl (by decide) in_X1 q174 (fun _ h => h) rfl (by rw [hnm]; rfl) rfl (tyX1_ok 6 (by decide)) (nar_o (some (cn s3))) (fit_o (some (cn s3))) pt.1.1 pt.1.2.1 pt.1.2.2.1 pt.1.2.2.2 pt.2.1 pt.2.2.1 pt.2.2.2 ?_
  refine gc_letS (fun s7 => ?_)
  refine gc_aload_n hG (v := .ref v0) (refV_a _) dX1_init_31 rfl rfl ?_
  refine gc_iconst hG (nI 1) dX1_init_32 (by decide) ?_
  refine gc_gd (fun hk => ?_)
  have pt := pt_I (s := s7) (f := 13) (a := v0) (x := (nI 1)) rfl
  refine gc_put hC tyX1 tyX1_ok nmX1 hk dX1_init_33 (ci := 1) (j := 7) (Or.inl (by decide)) rfl (by decide) in_X1 q176 (fun _ h => h) rfl (tyX1_ok 7 (by decide)) (fun _ => rfl) (fun _ => rfl) pt.1.1 pt.1.2.1 pt.1.2.2.1 pt.1.2.2.2 pt.2.1 pt.2.2.1 pt.2.2.2 ?_
  refine gc_letS (fun s8 => ?_)
  refine gc_aload_n hG (v := .ref v0) (refV_a _) dX1_init_36 rfl rfl ?_
  refine gc_bipush hG (nI 30) dX1_init_37 (by decide) ?_
  refine gc_newI hC (N := 30) (by decide) (by decide) (by decide) q157 dX1_init_39 ?_
  refine gc_letS (fun s9 => ?_)
  refine gc_gd (fun hk => ?_)
  have pt := pt_R (s := s9) (f := 14) (a := v0) (x := (some (cn s8))) rfl
  refine gc_putF hC tyX1 tyX1_ok nmX1 hk dX1_init_41 (ci := 1) (j := 8) (Or.inl (by decide)) rfl (by decide) in_X1 q178 (fun _ h => h) rfl (by rw [hnm]; rfl) rfl (tyX1_ok 8 (by decide)) (nar_a (some (cn s8))) (fit_a (some (cn s8))) pt.1.1 pt.1.2.1 pt.1.2.2.1 pt.1.2.2.2 pt.2.1 pt.2.2.1 pt.2.2.2 ?_
  refine gc_letS (fun s10 => ?_)
  refine gc_aload_n hG (v := .ref v0) (refV_a _) dX1_init_44 rfl rfl ?_
  refine gc_new hC (ci := 3) tyX3 tyX3_ok rfl in_X3 dX1_init_45 q147 q148 q77 (by decide +kernel) ?_
  refine gc_letS (fun s11 => ?_)
  refine gc_dup hG dX1_init_48 rfl ?_
  refine gc_aload_n hG (v := .ref v0) (refV_a _) dX1_init_49 rfl rfl ?_
  refine gc_callIN (f := fX3_init (cn s10) (some v0) s11) (As := [.ref v0]) (rest := [.ref (cn s10), .ref v0]) (n := 1) (d' := 1) (b := (cn s10)) hC hnL (wX3_init (gLn X) Y hl hY (cn s10) (some v0) s11) dX1_init_50 q149 q150 q77 q151 ⟨by decide +kernel, by decide +kernel⟩ rfl rfl (by decide) (by decide) (Nat.le_of_ble_eq_true rfl) (kn_V (fun r12 s13 => ?_)) kx_V
  refine gc_gd (fun hk => ?_)
  have pt := pt_R (s := s13) (f := 20) (a := v0) (x := (some (cn s10))) rfl
  refine gc_putF hC tyX1 tyX1_ok nmX1 hk dX1_init_53 (ci := 1) (j := 14) (Or.inl (by decide)) rfl (by decide) in_X1 q190 (fun _ h => h) rfl (by rw [hnm]; rfl) rfl (tyX1_ok 14 (by decide)) (nar_o (some (cn s10))) (fit_o (some (cn s10))) pt.1.1 pt.1.2.1 pt.1.2.2.1 pt.1.2.2.2 pt.2.1 pt.2.2.1 pt.2.2.2 ?_
  refine gc_letS (fun s14 => ?_)
  exact gc_vret hC hrt rfl dX1_init_56
def fX0_init (v0 : Nat) (t : cS) : Option (Unit × cS) :=
  letv (sN t 2 0 15) (fun s1 =>
  ob (fX1_init (cn t) s1) (fun r2 s3 =>
  gd (cK s3 v0 = 1) (
  letv (sR s3 1 v0 (some (cn t))) (fun s4 =>
  letv (sN s4 21 120 120) (fun s5 =>
  gd (cK s5 v0 = 1) (
  letv (sR s5 3 v0 (some (cn s4))) (fun s6 =>
  letv (sN s6 22 6 6) (fun s7 =>
  gd (cK s7 v0 = 1) (
  letv (sR s7 5 v0 (some (cn s6))) (fun s8 =>
  (some ((), s8))
  )
  )
  )
  )
  )
  )
  )
  )
  )
  )
theorem mfX0_init (v0 : Nat) (t : cS) : MO t (fX0_init v0 t) := by
  unfold fX0_init
  refine mo_letS cMo_sN (fun _ => ?_)
  refine mo_ob (by apply mfX1_init) (fun _ _ => ?_)
  refine mo_gd ?_
  refine mo_letS cMo_sR (fun _ => ?_)
  refine mo_letS cMo_sN (fun _ => ?_)
  refine mo_gd ?_
  refine mo_letS cMo_sR (fun _ => ?_)
  refine mo_letS cMo_sN (fun _ => ?_)
  refine mo_gd ?_
  refine mo_letS cMo_sR (fun _ => ?_)
  exact mo_some
set_option maxHeartbeats 4000000 in
theorem wX0_init (l : Launch) (Y : cY) (hl : l.stackTraces = false) (hY : ∀ q, q < Y.2.2.2.2.size → ¬ Y.2.2.2.1 q) (v0 : Nat) (t : cS) : cFn l Y yX0_init (ws_ yX0_init cX0_init 1 none) 3 [.ref v0] t (fX0_init v0 t) rV := by
  refine cmet (av := [.ref v0]) (mfX0_init v0 t) hl hY (by decide +kernel) (lg_le (List.forall_mem_cons.mpr ⟨rfl, fun _ h => absurd h List.not_mem_nil⟩) (Nat.le_of_ble_eq_true rfl)) (lv_args_cat (List.forall_mem_cons.mpr ⟨rfl, fun _ h => absurd h List.not_mem_nil⟩)) ?_
  intro X ad0 hln hC hnL hrt hnm hT hmd
  subst hln
  have hG := hC.1
  rw [lv_args_s (List.forall_mem_cons.mpr ⟨rfl, fun _ h => absurd h List.not_mem_nil⟩)]
  show GC X Y (cM Y X 1 t ad0 rV) _ t 0 [(0, .ref v0)] []
  unfold fX0_init
  refine gc_aload_n hG (v := .ref v0) (refV_a _) dX0_init_0 rfl rfl ?_
  refine gc_objInit hC hnL q112 q113 q114 dX0_init_1 (Nat.le_of_ble_eq_true rfl) ?_
  refine gc_aload_n hG (v := .ref v0) (refV_a _) dX0_init_4 rfl rfl ?_
  refine gc_new hC (ci := 1) tyX1 tyX1_ok rfl in_X1 dX0_init_5 q115 q116 q75 (by decide +kernel) ?_
  refine gc_letS (fun s1 => ?_)
  refine gc_dup hG dX0_init_8 rfl ?_
  refine gc_callIN (f := fX1_init (cn t) s1) (As := []) (rest := [.ref (cn t), .ref v0]) (n := 0) (d' := 2) (b := (cn t)) hC hnL (wX1_init (gLn X) Y hl hY (cn t) s1) dX0_init_9 q117 q118 q75 q119 ⟨by decide +kernel, by decide +kernel⟩ rfl rfl (by decide) (by decide) (Nat.le_of_ble_eq_true rfl) (kn_V (fun r2 s3 => ?_)) kx_V
  refine gc_gd (fun hk => ?_)
  have pt := pt_R (s := s3) (f := 1) (a := v0) (x := (some (cn t))) rfl
  refine gc_put hC tyX0 tyX0_ok nmX0 hk dX0_init_12 (ci := 0) (j := 0) (Or.inl (by decide)) rfl (by decide) in_X0 q224 (fun _ h => h) rfl (tyX0_ok 0 (by decide)) (nar_o (some (cn t))) (fit_o (some (cn t))) pt.1.1 pt.1.2.1 pt.1.2.2.1 pt.1.2.2.2 pt.2.1 pt.2.2.1 pt.2.2.2 ?_
  refine gc_letS (fun s4 => ?_)
  refine gc_aload_n hG (v := .ref v0) (refV_a _) dX0_init_15 rfl rfl ?_
  refine gc_bipush hG (nI 120) dX0_init_16 (by decide) ?_
  refine gc_newB hC (N := 120) (by decide) (by decide) (by decide) q240 dX0_init_18 ?_
  refine gc_letS (fun s5 => ?_)
  refine gc_gd (fun hk => ?_)
  have pt := pt_R (s := s5) (f := 3) (a := v0) (x := (some (cn s4))) rfl
  refine gc_putF hC tyX0 tyX0_ok nmX0 hk dX0_init_20 (ci := 0) (j := 2) (Or.inl (by decide)) rfl (by decide) in_X0 q226 (fun _ h => h) rfl (by rw [hnm]; rfl) rfl (tyX0_ok 2 (by decide)) (nar_a (some (cn s4))) (fit_a (some (cn s4))) pt.1.1 pt.1.2.1 pt.1.2.2.1 pt.1.2.2.2 pt.2.1 pt.2.2.1 pt.2.2.2 ?_
  refine gc_letS (fun s6 => ?_)
  refine gc_aload_n hG (v := .ref v0) (refV_a _) dX0_init_23 rfl rfl ?_
  refine gc_bipush hG (nI 6) dX0_init_24 (by decide) ?_
  refine gc_newQ hC (k := 22) (N := 6) (by decide) (by decide) (t0 := 2) rfl (by decide) (by decide) (by decide) q222 hC.2.1.2.2.1 dX0_init_26 ?_
  refine gc_letS (fun s7 => ?_)
  refine gc_gd (fun hk => ?_)
  have pt := pt_R (s := s7) (f := 5) (a := v0) (x := (some (cn s6))) rfl
  refine gc_putF hC tyX0 tyX0_ok nmX0 hk dX0_init_29 (ci := 0) (j := 4) (Or.inl (by decide)) rfl (by decide) in_X0 q228 (fun _ h => h) rfl (by rw [hnm]; rfl) rfl (tyX0_ok 4 (by decide)) (nar_a (some (cn s6))) (fit_a (some (cn s6))) pt.1.1 pt.1.2.1 pt.1.2.2.1 pt.1.2.2.2 pt.2.1 pt.2.2.1 pt.2.2.2 ?_
  refine gc_letS (fun s8 => ?_)
  exact gc_vret hC hrt rfl dX0_init_32
def fX0_within (v0 : Int32) (v1 : Int32) (v2 : Int32) (t : cS) : Option (Int32 × cS) :=
  if v0 < v1 then
    (some ((nI 0), t))
  else
    if v2 < v0 then
      (some ((nI 0), t))
    else
      (some ((nI 1), t))
theorem mfX0_within (v0 : Int32) (v1 : Int32) (v2 : Int32) (t : cS) : MO t (fX0_within v0 v1 v2 t) := by
  unfold fX0_within
  refine mo_ite ?_ ?_
  · exact mo_some
  · refine mo_ite ?_ ?_
    · exact mo_some
    · exact mo_some
set_option maxHeartbeats 4000000 in
theorem wX0_within (l : Launch) (Y : cY) (hl : l.stackTraces = false) (hY : ∀ q, q < Y.2.2.2.2.size → ¬ Y.2.2.2.1 q) (v0 : Int32) (v1 : Int32) (v2 : Int32) (t : cS) : cFn l Y yX0_within (ws_ yX0_within cX0_within 3 (some .boolean)) 1 [.int v0, .int v1, .int v2] t (fX0_within v0 v1 v2 t) rI := by
  refine cmet (av := [.int v0, .int v1, .int v2]) (mfX0_within v0 v1 v2 t) hl hY (by decide +kernel) (lg_le (List.forall_mem_cons.mpr ⟨rfl, List.forall_mem_cons.mpr ⟨rfl, List.forall_mem_cons.mpr ⟨rfl, fun _ h => absurd h List.not_mem_nil⟩⟩⟩) (Nat.le_of_ble_eq_true rfl)) (lv_args_cat (List.forall_mem_cons.mpr ⟨rfl, List.forall_mem_cons.mpr ⟨rfl, List.forall_mem_cons.mpr ⟨rfl, fun _ h => absurd h List.not_mem_nil⟩⟩⟩)) ?_
  intro X ad0 hln hC hnL hrt hnm hT hmd
  subst hln
  have hG := hC.1
  rw [lv_args_s (List.forall_mem_cons.mpr ⟨rfl, List.forall_mem_cons.mpr ⟨rfl, List.forall_mem_cons.mpr ⟨rfl, fun _ h => absurd h List.not_mem_nil⟩⟩⟩)]
  show GC X Y (cM Y X 3 t ad0 rI) _ t 0 [(0, .int v0), (1, .int v1), (2, .int v2)] []
  unfold fX0_within
  refine gc_iload_n hG dX0_within_0 rfl rfl ?_
  refine gc_iload_n hG dX0_within_1 rfl rfl ?_
  refine gc_icmp_lt hG (tgt := 14) dX0_within_2 (by decide) ?_ ?_
  · refine gc_iconst hG (nI 0) dX0_within_14 (by decide) ?_
    exact gc_iret hC hrt (by decide) rfl dX0_within_15
  · refine gc_iload_n hG dX0_within_5 rfl rfl ?_
    refine gc_iload_n hG dX0_within_6 rfl rfl ?_
    refine gc_icmp_gt hG (tgt := 14) dX0_within_7 (by decide) ?_ ?_
    · refine gc_iconst hG (nI 0) dX0_within_14 (by decide) ?_
      exact gc_iret hC hrt (by decide) rfl dX0_within_15
    · refine gc_iconst hG (nI 1) dX0_within_10 (by decide) ?_
      refine gc_goto hG (tgt := 15) dX0_within_11 (by decide) ?_
      exact gc_iret hC hrt (by decide) rfl dX0_within_15
def fX1_bars (v0 : Nat) (v1 : Int32) (v2 : Int32) (v3 : Int32) (v4 : Int32) (v5 : Int32) (t : cS) : Option (Int32 × cS) :=
  jn (fun (x1 : Int32) (t2 : cS) =>
    jn (fun  (t4 : cS) =>
      ob (fX0_within v2 (nI 0) (nI 9) t4) (fun r6 s7 =>
      if r6 = 0 then
        (some ((-1 : Int32), s7))
      else
        ob (fX0_within v3 (nI 0) (nI 2) s7) (fun r8 s9 =>
        if r8 = 0 then
          (some ((-1 : Int32), s9))
        else
          ob (fX0_within v4 (nI 0) (nI 9) s9) (fun r10 s11 =>
          if r10 = 0 then
            (some ((-1 : Int32), s11))
          else
            ob (fX0_within v5 (nI 1) (nI 50) s11) (fun r12 s13 =>
            if r12 = 0 then
              (some ((-1 : Int32), s13))
            else
              jn (fun  (t14 : cS) =>
                gd (cK t14 v0 = 2) (
                letv (cI t14 7 v0) (fun x16 =>
                if x16 = (nI 12) then
                  (some ((-3 : Int32), t14))
                else
                  (some ((nI 0), t14))
                )
                )
                ) (fun (j15 : cS → Option (Int32 × cS)) =>
                if x1 = 0 then
                  gd (cK s13 v0 = 2) (
                  letv (cR s13 6 v0) (fun x17 =>
                  rv x17 (fun a18 =>
                  gd (cK s13 a18 = 23 ∧ cIn s13 a18 v1) (
                  letv (cR s13 (er (v1).toNatClampNeg) a18) (fun x19 =>
                  rv x19 (fun a20 =>
                  gd (cK s13 a20 = 5) (
                  letv (cI s13 33 a20) (fun x21 =>
                  if x21 = 0 then
                    (some ((-5 : Int32), s13))
                  else
                    j15 s13
                  )
                  )
                  )
                  )
                  )
                  )
                  )
                  )
                else
                  j15 s13
                )
            )
          )
        )
      )
      ) (fun (j5 : cS → Option (Int32 × cS)) =>
      if x1 = 0 then
        if v1 < 0 then
          (some ((-1 : Int32), t2))
        else
          gd (cK t2 v0 = 2) (
          letv (cI t2 7 v0) (fun x22 =>
          if v1 < x22 then
            j5 t2
          else
            (some ((-1 : Int32), t2))
          )
          )
      else
        j5 t2
      )
    ) (fun (j3 : Int32 → cS → Option (Int32 × cS)) =>
    jn (fun  (t23 : cS) =>
      j3 (nI 0) t23
      ) (fun (j24 : cS → Option (Int32 × cS)) =>
      if v1 = (-1 : Int32) then
        gd (cK t v0 = 2) (
        letv (cI t 7 v0) (fun x25 =>
        if x25 = 0 then
          j3 (nI 1) t
        else
          j24 t
        )
        )
      else
        j24 t
      )
    )
theorem mfX1_bars (v0 : Nat) (v1 : Int32) (v2 : Int32) (v3 : Int32) (v4 : Int32) (v5 : Int32) (t : cS) : MO t (fX1_bars v0 v1 v2 v3 v4 v5 t) := by
  unfold fX1_bars
  refine mo_jn (fun j_ => ∀ ( x1 : Int32 ) ( t2 : cS ), MO t2 (j_ x1 t2)) (fun x1 t2 => ?_) (fun j3 hj3 => ?_)
  · refine mo_jn (fun j_ => ∀ ( t4 : cS ), MO t4 (j_ t4)) (fun t4 => ?_) (fun j5 hj5 => ?_)
    · refine mo_ob (by apply mfX0_within) (fun _ _ => ?_)
      refine mo_ite ?_ ?_
      · exact mo_some
      · refine mo_ob (by apply mfX0_within) (fun _ _ => ?_)
        refine mo_ite ?_ ?_
        · exact mo_some
        · refine mo_ob (by apply mfX0_within) (fun _ _ => ?_)
          refine mo_ite ?_ ?_
          · exact mo_some
          · refine mo_ob (by apply mfX0_within) (fun _ _ => ?_)
            refine mo_ite ?_ ?_
            · exact mo_some
            · refine mo_jn (fun j_ => ∀ ( t14 : cS ), MO t14 (j_ t14)) (fun t14 => ?_) (fun j15 hj15 => ?_)
              · refine mo_gd ?_
                refine mo_letv (fun _ => ?_)
                refine mo_ite ?_ ?_
                · exact mo_some
                · exact mo_some
              · refine mo_ite ?_ ?_
                · refine mo_gd ?_
                  refine mo_letv (fun _ => ?_)
                  refine mo_rv (fun _ => ?_)
                  refine mo_gd ?_
                  refine mo_letv (fun _ => ?_)
                  refine mo_rv (fun _ => ?_)
                  refine mo_gd ?_
                  refine mo_letv (fun _ => ?_)
                  refine mo_ite ?_ ?_
                  · exact mo_some
                  · exact hj15 _
                · exact hj15 _
    · refine mo_ite ?_ ?_
      · refine mo_ite ?_ ?_
        · exact mo_some
        · refine mo_gd ?_
          refine mo_letv (fun _ => ?_)
          refine mo_ite ?_ ?_
          · exact hj5 _
          · exact mo_some
      · exact hj5 _
  · refine mo_jn (fun j_ => ∀ ( t23 : cS ), MO t23 (j_ t23)) (fun t23 => ?_) (fun j24 hj24 => ?_)
    · exact hj3 _ _
    · refine mo_ite ?_ ?_
      · refine mo_gd ?_
        refine mo_letv (fun _ => ?_)
        refine mo_ite ?_ ?_
        · exact hj3 _ _
        · exact hj24 _
      · exact hj24 _
set_option maxHeartbeats 4000000 in
theorem wX1_bars (l : Launch) (Y : cY) (hl : l.stackTraces = false) (hY : ∀ q, q < Y.2.2.2.2.size → ¬ Y.2.2.2.1 q) (v0 : Nat) (v1 : Int32) (v2 : Int32) (v3 : Int32) (v4 : Int32) (v5 : Int32) (t : cS) : cFn l Y yX1_bars (ws_ yX1_bars cX1_bars 7 (some .int)) 2 [.ref v0, .int v1, .int v2, .int v3, .int v4, .int v5] t (fX1_bars v0 v1 v2 v3 v4 v5 t) rI := by
  refine cmet (av := [.ref v0, .int v1, .int v2, .int v3, .int v4, .int v5]) (mfX1_bars v0 v1 v2 v3 v4 v5 t) hl hY (by decide +kernel) (lg_le (List.forall_mem_cons.mpr ⟨rfl, List.forall_mem_cons.mpr ⟨rfl, List.forall_mem_cons.mpr ⟨rfl, List.forall_mem_cons.mpr ⟨rfl, List.forall_mem_cons.mpr ⟨rfl, List.forall_mem_cons.mpr ⟨rfl, fun _ h => absurd h List.not_mem_nil⟩⟩⟩⟩⟩⟩) (Nat.le_of_ble_eq_true rfl)) (lv_args_cat (List.forall_mem_cons.mpr ⟨rfl, List.forall_mem_cons.mpr ⟨rfl, List.forall_mem_cons.mpr ⟨rfl, List.forall_mem_cons.mpr ⟨rfl, List.forall_mem_cons.mpr ⟨rfl, List.forall_mem_cons.mpr ⟨rfl, fun _ h => absurd h List.not_mem_nil⟩⟩⟩⟩⟩⟩)) ?_
  intro X ad0 hln hC hnL hrt hnm hT hmd
  subst hln
  have hG := hC.1
  rw [lv_args_s (List.forall_mem_cons.mpr ⟨rfl, List.forall_mem_cons.mpr ⟨rfl, List.forall_mem_cons.mpr ⟨rfl, List.forall_mem_cons.mpr ⟨rfl, List.forall_mem_cons.mpr ⟨rfl, List.forall_mem_cons.mpr ⟨rfl, fun _ h => absurd h List.not_mem_nil⟩⟩⟩⟩⟩⟩)]
  show GC X Y (cM Y X 7 t ad0 rI) _ t 0 [(0, .ref v0), (1, .int v1), (2, .int v2), (3, .int v3), (4, .int v4), (5, .int v5)] []
  unfold fX1_bars
  refine gc_iload_n hG dX1_bars_0 rfl rfl ?_
  refine gc_iconst hG (-1 : Int32) dX1_bars_1 (by decide) ?_
  refine gc_jn (fun j_ => ∀ (x1 : Int32) (t2 : cS), GC X Y (cM Y X 7 t ad0 rI) (j_ x1 t2) t2 17 [(0, .ref v0), (1, .int v1), (2, .int v2), (3, .int v3), (4, .int v4), (5, .int v5)] [.int x1]) (fun x1 t2 => ?_) (fun j3 hj3 => ?_)
  · refine gc_istore hG dX1_bars_17 (Nat.le_of_ble_eq_true rfl) (lv' := [(0, _), (1, _), (2, _), (3, _), (4, _), (5, _), (6, _)]) rfl ?_
    refine gc_iload hG dX1_bars_19 rfl ?_
    refine gc_jn (fun j_ => ∀  (t4 : cS), GC X Y (cM Y X 7 t ad0 rI) (j_ t4) t4 36 [(0, .ref v0), (1, .int v1), (2, .int v2), (3, .int v3), (4, .int v4), (5, .int v5), (6, .int x1)] []) (fun t4 => ?_) (fun j5 hj5 => ?_)
    · refine gc_iload_n hG dX1_bars_36 rfl rfl ?_
      refine gc_iconst hG (nI 0) dX1_bars_37 (by decide) ?_
      refine gc_bipush hG (nI 9) dX1_bars_38 (by decide) ?_
      refine gc_callSN (f := fX0_within v2 (nI 0) (nI 9) t4) (As := [.int v2, .int (nI 0), .int (nI 9)]) (rest := []) (n := 3) (d' := 1) hC hnL (wX0_within (gLn X) Y hl hY v2 (nI 0) (nI 9) t4) dX1_bars_40 q249 q250 q74 q251 ⟨by decide +kernel, by decide +kernel⟩ rfl (by decide) (by decide) (Nat.le_of_ble_eq_true rfl) (kn_I (fun r6 s7 => ?_)) kx_I
      refine gc_if_eq hG (tgt := 77) dX1_bars_43 (by decide) ?_ ?_
      · refine gc_iconst hG (-1 : Int32) dX1_bars_77 (by decide) ?_
        exact gc_iret hC hrt rfl rfl dX1_bars_78
      · refine gc_iload_n hG dX1_bars_46 rfl rfl ?_
        refine gc_iconst hG (nI 0) dX1_bars_47 (by decide) ?_
        refine gc_iconst hG (nI 2) dX1_bars_48 (by decide) ?_
        refine gc_callSN (f := fX0_within v3 (nI 0) (nI 2) s7) (As := [.int v3, .int (nI 0), .int (nI 2)]) (rest := []) (n := 3) (d' := 1) hC hnL (wX0_within (gLn X) Y hl hY v3 (nI 0) (nI 2) s7) dX1_bars_49 q249 q250 q74 q251 ⟨by decide +kernel, by decide +kernel⟩ rfl (by decide) (by decide) (Nat.le_of_ble_eq_true rfl) (kn_I (fun r8 s9 => ?_)) kx_I
        refine gc_if_eq hG (tgt := 77) dX1_bars_52 (by decide) ?_ ?_
        · refine gc_iconst hG (-1 : Int32) dX1_bars_77 (by decide) ?_
          exact gc_iret hC hrt rfl rfl dX1_bars_78
        · refine gc_iload hG dX1_bars_55 rfl ?_
          refine gc_iconst hG (nI 0) dX1_bars_57 (by decide) ?_
          refine gc_bipush hG (nI 9) dX1_bars_58 (by decide) ?_
          refine gc_callSN (f := fX0_within v4 (nI 0) (nI 9) s9) (As := [.int v4, .int (nI 0), .int (nI 9)]) (rest := []) (n := 3) (d' := 1) hC hnL (wX0_within (gLn X) Y hl hY v4 (nI 0) (nI 9) s9) dX1_bars_60 q249 q250 q74 q251 ⟨by decide +kernel, by decide +kernel⟩ rfl (by decide) (by decide) (Nat.le_of_ble_eq_true rfl) (kn_I (fun r10 s11 => ?_)) kx_I
          refine gc_if_eq hG (tgt := 77) dX1_bars_63 (by decide) ?_ ?_
          · refine gc_iconst hG (-1 : Int32) dX1_bars_77 (by decide) ?_
            exact gc_iret hC hrt rfl rfl dX1_bars_78
          · refine gc_iload hG dX1_bars_66 rfl ?_
            refine gc_iconst hG (nI 1) dX1_bars_68 (by decide) ?_
            refine gc_bipush hG (nI 50) dX1_bars_69 (by decide) ?_
            refine gc_callSN (f := fX0_within v5 (nI 1) (nI 50) s11) (As := [.int v5, .int (nI 1), .int (nI 50)]) (rest := []) (n := 3) (d' := 1) hC hnL (wX0_within (gLn X) Y hl hY v5 (nI 1) (nI 50) s11) dX1_bars_71 q249 q250 q74 q251 ⟨by decide +kernel, by decide +kernel⟩ rfl (by decide) (by decide) (Nat.le_of_ble_eq_true rfl) (kn_I (fun r12 s13 => ?_)) kx_I
            refine gc_if_ne hG (tgt := 79) dX1_bars_74 (by decide) ?_ ?_
            · refine gc_iconst hG (-1 : Int32) dX1_bars_77 (by decide) ?_
              exact gc_iret hC hrt rfl rfl dX1_bars_78
            · refine gc_iload hG dX1_bars_79 rfl ?_
              refine gc_jn (fun j_ => ∀  (t14 : cS), GC X Y (cM Y X 7 t ad0 rI) (j_ t14) t14 99 [(0, .ref v0)] []) (fun t14 => ?_) (fun j15 hj15 => ?_)
              · refine gc_aload_n hG (v := .ref v0) (refV_a _) dX1_bars_99 rfl rfl ?_
                refine gc_gd (fun hk => ?_)
                refine gc_get hC (ci := 1) (j := 1) (v := .int (cI t14 7 v0)) hk dX1_bars_100 rfl (by decide) in_X1 q162 (fun _ h => h) rfl ?_
                refine gc_letv (fun x16 h_ => ?_)
                refine gc_bipush hG (nI 12) dX1_bars_103 (by decide) ?_
                refine gc_icmp_ne hG (tgt := 113) dX1_bars_105 (by decide) ?_ ?_
                · refine gc_bipush hG (-3 : Int32) dX1_bars_108 (by decide) ?_
                  refine gc_goto hG (tgt := 114) dX1_bars_110 (by decide) ?_
                  exact gc_iret hC hrt rfl rfl dX1_bars_114
                · refine gc_iconst hG (nI 0) dX1_bars_113 (by decide) ?_
                  exact gc_iret hC hrt rfl rfl dX1_bars_114
              · refine gc_if_ne hG (tgt := 99) dX1_bars_81 (by decide) ?_ ?_
                · refine gc_aload_n hG (v := .ref v0) (refV_a _) dX1_bars_84 rfl rfl ?_
                  refine gc_gd (fun hk => ?_)
                  refine gc_get hC (ci := 1) (j := 0) (v := vr (cR s13 6 v0)) hk dX1_bars_85 rfl (by decide) in_X1 q158 (fun _ h => h) rfl ?_
                  refine gc_letr (fun x17 h_ => ?_)
                  refine gc_iload_n hG dX1_bars_88 rfl rfl ?_
                  refine gc_rv (fun a18 h_ => ?_)
                  subst h_
                  refine gc_gd (fun hk => ?_)
                  refine gc_aald hC hk.1 (by decide) (by decide) (t0 := 3) rfl hk.2 dX1_bars_89 ?_
                  refine gc_letr (fun x19 h_ => ?_)
                  refine gc_rv (fun a20 h_ => ?_)
                  subst h_
                  refine gc_gd (fun hk => ?_)
                  refine gc_getN hC (ci := 4) (j := 7) (v := .int (cI s13 33 a20)) hk dX1_bars_90 rfl (by decide) in_X5 q300 (fun _ h => h) rfl ?_
                  refine gc_letv (fun x21 h_ => ?_)
                  refine gc_if_ne hG (tgt := 99) dX1_bars_93 (by decide) ?_ ?_
                  · refine gc_bipush hG (-5 : Int32) dX1_bars_96 (by decide) ?_
                    exact gc_iret hC hrt rfl rfl dX1_bars_98
                  · refine gc_sub [0] rfl ?_
                    exact hj15 s13
                · refine gc_sub [0] rfl ?_
                  exact hj15 s13
    · refine gc_if_ne hG (tgt := 36) dX1_bars_21 (by decide) ?_ ?_
      · refine gc_iload_n hG dX1_bars_24 rfl rfl ?_
        refine gc_if_lt hG (tgt := 77) dX1_bars_25 (by decide) ?_ ?_
        · refine gc_iconst hG (-1 : Int32) dX1_bars_77 (by decide) ?_
          exact gc_iret hC hrt rfl rfl dX1_bars_78
        · refine gc_iload_n hG dX1_bars_28 rfl rfl ?_
          refine gc_aload_n hG (v := .ref v0) (refV_a _) dX1_bars_29 rfl rfl ?_
          refine gc_gd (fun hk => ?_)
          refine gc_get hC (ci := 1) (j := 1) (v := .int (cI t2 7 v0)) hk dX1_bars_30 rfl (by decide) in_X1 q162 (fun _ h => h) rfl ?_
          refine gc_letv (fun x22 h_ => ?_)
          refine gc_icmp_ge hG (tgt := 77) dX1_bars_33 (by decide) ?_ ?_
          · exact hj5 t2
          · refine gc_iconst hG (-1 : Int32) dX1_bars_77 (by decide) ?_
            exact gc_iret hC hrt rfl rfl dX1_bars_78
      · exact hj5 t2
  · refine gc_jn (fun j_ => ∀  (t23 : cS), GC X Y (cM Y X 7 t ad0 rI) (j_ t23) t23 16 [(0, .ref v0), (1, .int v1), (2, .int v2), (3, .int v3), (4, .int v4), (5, .int v5)] []) (fun t23 => ?_) (fun j24 hj24 => ?_)
    · refine gc_iconst hG (nI 0) dX1_bars_16 (by decide) ?_
      exact hj3 (nI 0) t23
    · refine gc_icmp_ne hG (tgt := 16) dX1_bars_2 (by decide) ?_ ?_
      · refine gc_aload_n hG (v := .ref v0) (refV_a _) dX1_bars_5 rfl rfl ?_
        refine gc_gd (fun hk => ?_)
        refine gc_get hC (ci := 1) (j := 1) (v := .int (cI t 7 v0)) hk dX1_bars_6 rfl (by decide) in_X1 q162 (fun _ h => h) rfl ?_
        refine gc_letv (fun x25 h_ => ?_)
        refine gc_if_ne hG (tgt := 16) dX1_bars_9 (by decide) ?_ ?_
        · refine gc_iconst hG (nI 1) dX1_bars_12 (by decide) ?_
          refine gc_goto hG (tgt := 17) dX1_bars_13 (by decide) ?_
          exact hj3 (nI 1) t
        · exact hj24 t
      · exact hj24 t
def fX0_strategyOf (v0 : Int32) (t : cS) : Option (Option Nat × cS) :=
  gsw v0 [
    ((nI 0), 
      gd (cK t 260 = 30) (
      (some ((some (260)), t))
      )
    ),
    ((nI 1), 
      gd (cK t 261 = 31) (
      (some ((some (261)), t))
      )
    )
  ] (
    gd (cK t 262 = 32) (
    (some ((some (262)), t))
    )
  )
theorem mfX0_strategyOf (v0 : Int32) (t : cS) : MO t (fX0_strategyOf v0 t) := by
  unfold fX0_strategyOf
  refine mo_sw (List.forall_mem_cons.mpr ⟨?_, List.forall_mem_cons.mpr ⟨?_, fun _ h => absurd h List.not_mem_nil⟩⟩) ?_
  · dsimp only
    refine mo_gd ?_
    exact mo_some
  · dsimp only
    refine mo_gd ?_
    exact mo_some
  · refine mo_gd ?_
    exact mo_some
set_option maxHeartbeats 4000000 in
theorem wX0_strategyOf (l : Launch) (Y : cY) (hl : l.stackTraces = false) (hY : ∀ q, q < Y.2.2.2.2.size → ¬ Y.2.2.2.1 q) (v0 : Int32) (t : cS) : cFn l Y yX0_strategyOf (ws_ yX0_strategyOf cX0_strategyOf 1 (some (.object "ActorTrees$Strategy"))) 1 [.int v0] t (fX0_strategyOf v0 t) rR := by
  refine cmet (av := [.int v0]) (mfX0_strategyOf v0 t) hl hY (by decide +kernel) (lg_le (List.forall_mem_cons.mpr ⟨rfl, fun _ h => absurd h List.not_mem_nil⟩) (Nat.le_of_ble_eq_true rfl)) (lv_args_cat (List.forall_mem_cons.mpr ⟨rfl, fun _ h => absurd h List.not_mem_nil⟩)) ?_
  intro X ad0 hln hC hnL hrt hnm hT hmd
  subst hln
  have hG := hC.1
  rw [lv_args_s (List.forall_mem_cons.mpr ⟨rfl, fun _ h => absurd h List.not_mem_nil⟩)]
  show GC X Y (cM Y X 1 t ad0 rR) _ t 0 [(0, .int v0)] []
  unfold fX0_strategyOf
  refine gc_iload_n hG dX0_strategyOf_0 rfl rfl ?_
  refine gc_lsw hG (dt := 40) dX0_strategyOf_1 (by decide) (by decide) ⟨⟨by decide, 28, by decide, ?_⟩, ⟨by decide, 34, by decide, ?_⟩, trivial⟩ ?_
  · refine gc_gd (fun hk => ?_)
    refine gc_lamC (k := 30) hC hnL hmd (List.mem_of_getElem? (i := 0) rfl) rfl (by decide) hk (by decide) dX0_strategyOf_28 (Nat.le_of_ble_eq_true rfl) ?_
    exact gc_aret hC hrt (Or.inl ⟨_, rfl⟩) (refV_a _) rfl dX0_strategyOf_33
  · refine gc_gd (fun hk => ?_)
    refine gc_lamC (k := 31) hC hnL hmd (List.mem_of_getElem? (i := 1) rfl) rfl (by decide) hk (by decide) dX0_strategyOf_34 (Nat.le_of_ble_eq_true rfl) ?_
    exact gc_aret hC hrt (Or.inl ⟨_, rfl⟩) (refV_a _) rfl dX0_strategyOf_39
  · refine gc_gd (fun hk => ?_)
    refine gc_lamC (k := 32) hC hnL hmd (List.mem_of_getElem? (i := 2) rfl) rfl (by decide) hk (by decide) dX0_strategyOf_40 (Nat.le_of_ble_eq_true rfl) ?_
    exact gc_aret hC hrt (Or.inl ⟨_, rfl⟩) (refV_a _) rfl dX0_strategyOf_45
def fX5_init (v0 : Nat) (v1 : Int32) (v2 : Int32) (v3 : Int32) (v4 : Int32) (v5 : Int32) (v6 : Int32) (t : cS) : Option (Unit × cS) :=
  gd (cK t v0 = 5) (
  letv (sI t 33 v0 (nI 1)) (fun s1 =>
  letv (sN s1 20 5 5) (fun s2 =>
  gd (cK s2 v0 = 5) (
  letv (sR s2 35 v0 (some (cn s1))) (fun s3 =>
  gd (cK s3 v0 = 5) (
  letv (sI s3 36 v0 (nI 1)) (fun s4 =>
  letv (sN s4 3 0 4) (fun s5 =>
  ob (fX2_init (cn s4) (nI 12) s5) (fun r6 s7 =>
  gd (cK s7 v0 = 5) (
  letv (sR s7 37 v0 (some (cn s4))) (fun s8 =>
  letv (sN s8 3 0 4) (fun s9 =>
  ob (fX2_init (cn s8) (nI 6) s9) (fun r10 s11 =>
  gd (cK s11 v0 = 5) (
  letv (sR s11 38 v0 (some (cn s8))) (fun s12 =>
  letv (sN s12 3 0 4) (fun s13 =>
  ob (fX2_init (cn s12) (nI 12) s13) (fun r14 s15 =>
  gd (cK s15 v0 = 5) (
  letv (sR s15 39 v0 (some (cn s12))) (fun s16 =>
  letv (sN s16 3 0 4) (fun s17 =>
  ob (fX2_init (cn s16) (nI 2147483647) s17) (fun r18 s19 =>
  gd (cK s19 v0 = 5) (
  letv (sR s19 40 v0 (some (cn s16))) (fun s20 =>
  gd (cK s20 v0 = 5) (
  letv (sI s20 26 v0 v1) (fun s21 =>
  gd (cK s21 v0 = 5) (
  letv (sI s21 27 v0 v2) (fun s22 =>
  gd (cK s22 v0 = 5) (
  letv (sI s22 28 v0 v3) (fun s23 =>
  gd (cK s23 v0 = 5) (
  letv (sI s23 29 v0 v4) (fun s24 =>
  gd (cK s24 v0 = 5) (
  letv (sI s24 31 v0 v5) (fun s25 =>
  gd (cK s25 v0 = 5) (
  letv (sI s25 32 v0 v6) (fun s26 =>
  ob (fX0_strategyOf v4 s26) (fun r27 s28 =>
  gd (cK s28 v0 = 5) (
  letv (sR s28 30 v0 r27) (fun s29 =>
  letv (sLI s29 33 v1) (fun s30 =>
  gd (cK s30 v0 = 5) (
  letv (sR s30 41 v0 (some (cn s29))) (fun s31 =>
  letv (sLI s31 34 v1) (fun s32 =>
  gd (cK s32 v0 = 5) (
  letv (sR s32 42 v0 (some (cn s31))) (fun s33 =>
  gd (cK s33 v0 = 5) (
  letv (cR s33 35 v0) (fun x34 =>
  rv x34 (fun a35 =>
  gd (cK s33 a35 = 20 ∧ cIn s33 a35 (nI 0)) (
  letv (sI s33 (ei ((nI 0)).toNatClampNeg) a35 v3) (fun s36 =>
  (some ((), s36))
  )
  )
  )
  )
  )
  )
  )
  )
  )
  )
  )
  )
  )
  )
  )
  )
  )
  )
  )
  )
  )
  )
  )
  )
  )
  )
  )
  )
  )
  )
  )
  )
  )
  )
  )
  )
  )
  )
  )
  )
  )
  )
  )
  )
  )
  )
  )
  )
  )
theorem mfX5_init (v0 : Nat) (v1 : Int32) (v2 : Int32) (v3 : Int32) (v4 : Int32) (v5 : Int32) (v6 : Int32) (t : cS) : MO t (fX5_init v0 v1 v2 v3 v4 v5 v6 t) := by
  unfold fX5_init
  refine mo_gd ?_
  refine mo_letS cMo_sI (fun _ => ?_)
  refine mo_letS cMo_sN (fun _ => ?_)
  refine mo_gd ?_
  refine mo_letS cMo_sR (fun _ => ?_)
  refine mo_gd ?_
  refine mo_letS cMo_sI (fun _ => ?_)
  refine mo_letS cMo_sN (fun _ => ?_)
  refine mo_ob (by apply mfX2_init) (fun _ _ => ?_)
  refine mo_gd ?_
  refine mo_letS cMo_sR (fun _ => ?_)
  refine mo_letS cMo_sN (fun _ => ?_)
  refine mo_ob (by apply mfX2_init) (fun _ _ => ?_)
  refine mo_gd ?_
  refine mo_letS cMo_sR (fun _ => ?_)
  refine mo_letS cMo_sN (fun _ => ?_)
  refine mo_ob (by apply mfX2_init) (fun _ _ => ?_)
  refine mo_gd ?_
  refine mo_letS cMo_sR (fun _ => ?_)
  refine mo_letS cMo_sN (fun _ => ?_)
  refine mo_ob (by apply mfX2_init) (fun _ _ => ?_)
  refine mo_gd ?_
  refine mo_letS cMo_sR (fun _ => ?_)
  refine mo_gd ?_
  refine mo_letS cMo_sI (fun _ => ?_)
  refine mo_gd ?_
  refine mo_letS cMo_sI (fun _ => ?_)
  refine mo_gd ?_
  refine mo_letS cMo_sI (fun _ => ?_)
  refine mo_gd ?_
  refine mo_letS cMo_sI (fun _ => ?_)
  refine mo_gd ?_
  refine mo_letS cMo_sI (fun _ => ?_)
  refine mo_gd ?_
  refine mo_letS cMo_sI (fun _ => ?_)
  refine mo_ob (by apply mfX0_strategyOf) (fun _ _ => ?_)
  refine mo_gd ?_
  refine mo_letS cMo_sR (fun _ => ?_)
  refine mo_letS cMo_sLI (fun _ => ?_)
  refine mo_gd ?_
  refine mo_letS cMo_sR (fun _ => ?_)
  refine mo_letS cMo_sLI (fun _ => ?_)
  refine mo_gd ?_
  refine mo_letS cMo_sR (fun _ => ?_)
  refine mo_gd ?_
  refine mo_letv (fun _ => ?_)
  refine mo_rv (fun _ => ?_)
  refine mo_gd ?_
  refine mo_letS cMo_sI (fun _ => ?_)
  exact mo_some
set_option maxHeartbeats 4000000 in
theorem wX5_init (l : Launch) (Y : cY) (hl : l.stackTraces = false) (hY : ∀ q, q < Y.2.2.2.2.size → ¬ Y.2.2.2.1 q) (v0 : Nat) (v1 : Int32) (v2 : Int32) (v3 : Int32) (v4 : Int32) (v5 : Int32) (v6 : Int32) (t : cS) : cFn l Y yX5_init (ws_ yX5_init cX5_init 7 none) 2 [.ref v0, .int v1, .int v2, .int v3, .int v4, .int v5, .int v6] t (fX5_init v0 v1 v2 v3 v4 v5 v6 t) rV := by
  refine cmet (av := [.ref v0, .int v1, .int v2, .int v3, .int v4, .int v5, .int v6]) (mfX5_init v0 v1 v2 v3 v4 v5 v6 t) hl hY (by decide +kernel) (lg_le (List.forall_mem_cons.mpr ⟨rfl, List.forall_mem_cons.mpr ⟨rfl, List.forall_mem_cons.mpr ⟨rfl, List.forall_mem_cons.mpr ⟨rfl, List.forall_mem_cons.mpr ⟨rfl, List.forall_mem_cons.mpr ⟨rfl, List.forall_mem_cons.mpr ⟨rfl, fun _ h => absurd h List.not_mem_nil⟩⟩⟩⟩⟩⟩⟩) (Nat.le_of_ble_eq_true rfl)) (lv_args_cat (List.forall_mem_cons.mpr ⟨rfl, List.forall_mem_cons.mpr ⟨rfl, List.forall_mem_cons.mpr ⟨rfl, List.forall_mem_cons.mpr ⟨rfl, List.forall_mem_cons.mpr ⟨rfl, List.forall_mem_cons.mpr ⟨rfl, List.forall_mem_cons.mpr ⟨rfl, fun _ h => absurd h List.not_mem_nil⟩⟩⟩⟩⟩⟩⟩)) ?_
  intro X ad0 hln hC hnL hrt hnm hT hmd
  subst hln
  have hG := hC.1
  rw [lv_args_s (List.forall_mem_cons.mpr ⟨rfl, List.forall_mem_cons.mpr ⟨rfl, List.forall_mem_cons.mpr ⟨rfl, List.forall_mem_cons.mpr ⟨rfl, List.forall_mem_cons.mpr ⟨rfl, List.forall_mem_cons.mpr ⟨rfl, List.forall_mem_cons.mpr ⟨rfl, fun _ h => absurd h List.not_mem_nil⟩⟩⟩⟩⟩⟩⟩)]
  show GC X Y (cM Y X 7 t ad0 rV) _ t 0 [(0, .ref v0), (1, .int v1), (2, .int v2), (3, .int v3), (4, .int v4), (5, .int v5), (6, .int v6)] []
  unfold fX5_init
  refine gc_aload_n hG (v := .ref v0) (refV_a _) dX5_init_0 rfl rfl ?_
  refine gc_objInit hC hnL q260 q113 q114 dX5_init_1 (Nat.le_of_ble_eq_true rfl) ?_
  refine gc_aload_n hG (v := .ref v0) (refV_a _) dX5_init_4 rfl rfl ?_
  refine gc_iconst hG (nI 1) dX5_init_5 (by decide) ?_
  have hz : (nI 1) = nI 0 ∨ (nI 1) = nI 1 := by decide
  refine gc_gd (fun hk => ?_)
  have pt := pt_I (s := t) (f := 33) (a := v0) (x := (nI 1)) rfl
  refine gc_put hC tyX5 tyX5_ok nmX5 hk dX5_init_6 (ci := 4) (j := 7) (Or.inl (by decide)) rfl (by decide) in_X5 q299 (fun _ h => h) rfl (tyX5_ok 7 (by decide)) (nar_z2 hz) (fit_z2 hz) pt.1.1 pt.1.2.1 pt.1.2.2.1 pt.1.2.2.2 pt.2.1 pt.2.2.1 pt.2.2.2 ?_
  refine gc_letS (fun s1 => ?_)
  refine gc_aload_n hG (v := .ref v0) (refV_a _) dX5_init_9 rfl rfl ?_
  refine gc_iconst hG (nI 5) dX5_init_10 (by decide) ?_
  refine gc_newI hC (N := 5) (by decide) (by decide) (by decide) q157 dX5_init_11 ?_
  refine gc_letS (fun s2 => ?_)
  refine gc_gd (fun hk => ?_)
  have pt := pt_R (s := s2) (f := 35) (a := v0) (x := (some (cn s1))) rfl
  refine gc_putF hC tyX5 tyX5_ok nmX5 hk dX5_init_13 (ci := 4) (j := 9) (Or.inl (by decide)) rfl (by decide) in_X5 q307 (fun _ h => h) rfl (by rw [hnm]; rfl) rfl (tyX5_ok 9 (by decide)) (nar_a (some (cn s1))) (fit_a (some (cn s1))) pt.1.1 pt.1.2.1 pt.1.2.2.1 pt.1.2.2.2 pt.2.1 pt.2.2.1 pt.2.2.2 ?_
  refine gc_letS (fun s3 => ?_)
  refine gc_aload_n hG (v := .ref v0) (refV_a _) dX5_init_16 rfl rfl ?_
  refine gc_iconst hG (nI 1) dX5_init_17 (by decide) ?_
  refine gc_gd (fun hk => ?_)
  have pt := pt_I (s := s3) (f := 36) (a := v0) (x := (nI 1)) rfl
  refine gc_put hC tyX5 tyX5_ok nmX5 hk dX5_init_18 (ci := 4) (j := 10) (Or.inl (by decide)) rfl (by decide) in_X5 q309 (fun _ h => h) rfl (tyX5_ok 10 (by decide)) (fun _ => rfl) (fun _ => rfl) pt.1.1 pt.1.2.1 pt.1.2.2.1 pt.1.2.2.2 pt.2.1 pt.2.2.1 pt.2.2.2 ?_
  refine gc_letS (fun s4 => ?_)
  refine gc_aload_n hG (v := .ref v0) (refV_a _) dX5_init_21 rfl rfl ?_
  refine gc_new hC (ci := 2) tyX2 tyX2_ok rfl in_X2 dX5_init_22 q261 q124 q76 (by decide +kernel) ?_
  refine gc_letS (fun s5 => ?_)
  refine gc_dup hG dX5_init_25 rfl ?_
  refine gc_bipush hG (nI 12) dX5_init_26 (by decide) ?_
  refine gc_callI (f := fX2_init (cn s4) (nI 12) s5) (As := [.int (nI 12)]) (rest := [.ref (cn s4), .ref v0]) (n := 1) (d' := 1) (b := (cn s4)) hC hnL (wX2_init (gLn X) Y hl hY (cn s4) (nI 12) s5) dX5_init_28 q262 q126 q76 q127 ⟨by decide +kernel, by decide +kernel⟩ rfl rfl (by decide) (by decide) (Nat.le_of_ble_eq_true rfl) (kn_V (fun r6 s7 => ?_)) kx_V
  refine gc_gd (fun hk => ?_)
  have pt := pt_R (s := s7) (f := 37) (a := v0) (x := (some (cn s4))) rfl
  refine gc_putF hC tyX5 tyX5_ok nmX5 hk dX5_init_31 (ci := 4) (j := 11) (Or.inl (by decide)) rfl (by decide) in_X5 q312 (fun _ h => h) rfl (by rw [hnm]; rfl) rfl (tyX5_ok 11 (by decide)) (nar_o (some (cn s4))) (fit_o (some (cn s4))) pt.1.1 pt.1.2.1 pt.1.2.2.1 pt.1.2.2.2 pt.2.1 pt.2.2.1 pt.2.2.2 ?_
  refine gc_letS (fun s8 => ?_)
  refine gc_aload_n hG (v := .ref v0) (refV_a _) dX5_init_34 rfl rfl ?_
  refine gc_new hC (ci := 2) tyX2 tyX2_ok rfl in_X2 dX5_init_35 q261 q124 q76 (by decide +kernel) ?_
  refine gc_letS (fun s9 => ?_)
  refine gc_dup hG dX5_init_38 rfl ?_
  refine gc_bipush hG (nI 6) dX5_init_39 (by decide) ?_
  refine gc_callI (f := fX2_init (cn s8) (nI 6) s9) (As := [.int (nI 6)]) (rest := [.ref (cn s8), .ref v0]) (n := 1) (d' := 1) (b := (cn s8)) hC hnL (wX2_init (gLn X) Y hl hY (cn s8) (nI 6) s9) dX5_init_41 q262 q126 q76 q127 ⟨by decide +kernel, by decide +kernel⟩ rfl rfl (by decide) (by decide) (Nat.le_of_ble_eq_true rfl) (kn_V (fun r10 s11 => ?_)) kx_V
  refine gc_gd (fun hk => ?_)
  have pt := pt_R (s := s11) (f := 38) (a := v0) (x := (some (cn s8))) rfl
  refine gc_putF hC tyX5 tyX5_ok nmX5 hk dX5_init_44 (ci := 4) (j := 12) (Or.inl (by decide)) rfl (by decide) in_X5 q315 (fun _ h => h) rfl (by rw [hnm]; rfl) rfl (tyX5_ok 12 (by decide)) (nar_o (some (cn s8))) (fit_o (some (cn s8))) pt.1.1 pt.1.2.1 pt.1.2.2.1 pt.1.2.2.2 pt.2.1 pt.2.2.1 pt.2.2.2 ?_
  refine gc_letS (fun s12 => ?_)
  refine gc_aload_n hG (v := .ref v0) (refV_a _) dX5_init_47 rfl rfl ?_
  refine gc_new hC (ci := 2) tyX2 tyX2_ok rfl in_X2 dX5_init_48 q261 q124 q76 (by decide +kernel) ?_
  refine gc_letS (fun s13 => ?_)
  refine gc_dup hG dX5_init_51 rfl ?_
  refine gc_bipush hG (nI 12) dX5_init_52 (by decide) ?_
  refine gc_callI (f := fX2_init (cn s12) (nI 12) s13) (As := [.int (nI 12)]) (rest := [.ref (cn s12), .ref v0]) (n := 1) (d' := 1) (b := (cn s12)) hC hnL (wX2_init (gLn X) Y hl hY (cn s12) (nI 12) s13) dX5_init_54 q262 q126 q76 q127 ⟨by decide +kernel, by decide +kernel⟩ rfl rfl (by decide) (by decide) (Nat.le_of_ble_eq_true rfl) (kn_V (fun r14 s15 => ?_)) kx_V
  refine gc_gd (fun hk => ?_)
  have pt := pt_R (s := s15) (f := 39) (a := v0) (x := (some (cn s12))) rfl
  refine gc_putF hC tyX5 tyX5_ok nmX5 hk dX5_init_57 (ci := 4) (j := 13) (Or.inl (by decide)) rfl (by decide) in_X5 q318 (fun _ h => h) rfl (by rw [hnm]; rfl) rfl (tyX5_ok 13 (by decide)) (nar_o (some (cn s12))) (fit_o (some (cn s12))) pt.1.1 pt.1.2.1 pt.1.2.2.1 pt.1.2.2.2 pt.2.1 pt.2.2.1 pt.2.2.2 ?_
  refine gc_letS (fun s16 => ?_)
  refine gc_aload_n hG (v := .ref v0) (refV_a _) dX5_init_60 rfl rfl ?_
  refine gc_new hC (ci := 2) tyX2 tyX2_ok rfl in_X2 dX5_init_61 q261 q124 q76 (by decide +kernel) ?_
  refine gc_letS (fun s17 => ?_)
  refine gc_dup hG dX5_init_64 rfl ?_
  refine gc_ldc hG (nI 2147483647) dX5_init_65 q263 ?_
  refine gc_callI (f := fX2_init (cn s16) (nI 2147483647) s17) (As := [.int (nI 2147483647)]) (rest := [.ref (cn s16), .ref v0]) (n := 1) (d' := 1) (b := (cn s16)) hC hnL (wX2_init (gLn X) Y hl hY (cn s16) (nI 2147483647) s17) dX5_init_67 q262 q126 q76 q127 ⟨by decide +kernel, by decide +kernel⟩ rfl rfl (by decide) (by decide) (Nat.le_of_ble_eq_true rfl) (kn_V (fun r18 s19 => ?_)) kx_V
  refine gc_gd (fun hk => ?_)
  have pt := pt_R (s := s19) (f := 40) (a := v0) (x := (some (cn s16))) rfl
  refine gc_putF hC tyX5 tyX5_ok nmX5 hk dX5_init_70 (ci := 4) (j := 14) (Or.inl (by decide)) rfl (by decide) in_X5 q322 (fun _ h => h) rfl (by rw [hnm]; rfl) rfl (tyX5_ok 14 (by decide)) (nar_o (some (cn s16))) (fit_o (some (cn s16))) pt.1.1 pt.1.2.1 pt.1.2.2.1 pt.1.2.2.2 pt.2.1 pt.2.2.1 pt.2.2.2 ?_
  refine gc_letS (fun s20 => ?_)
  refine gc_aload_n hG (v := .ref v0) (refV_a _) dX5_init_73 rfl rfl ?_
  refine gc_iload_n hG dX5_init_74 rfl rfl ?_
  refine gc_gd (fun hk => ?_)
  have pt := pt_I (s := s20) (f := 26) (a := v0) (x := v1) rfl
  refine gc_putF hC tyX5 tyX5_ok nmX5 hk dX5_init_75 (ci := 4) (j := 0) (Or.inl (by decide)) rfl (by decide) in_X5 q281 (fun _ h => h) rfl (by rw [hnm]; rfl) rfl (tyX5_ok 0 (by decide)) (fun _ => rfl) (fun _ => rfl) pt.1.1 pt.1.2.1 pt.1.2.2.1 pt.1.2.2.2 pt.2.1 pt.2.2.1 pt.2.2.2 ?_
  refine gc_letS (fun s21 => ?_)
  refine gc_aload_n hG (v := .ref v0) (refV_a _) dX5_init_78 rfl rfl ?_
  refine gc_iload_n hG dX5_init_79 rfl rfl ?_
  refine gc_gd (fun hk => ?_)
  have pt := pt_I (s := s21) (f := 27) (a := v0) (x := v2) rfl
  refine gc_putF hC tyX5 tyX5_ok nmX5 hk dX5_init_80 (ci := 4) (j := 1) (Or.inl (by decide)) rfl (by decide) in_X5 q284 (fun _ h => h) rfl (by rw [hnm]; rfl) rfl (tyX5_ok 1 (by decide)) (fun _ => rfl) (fun _ => rfl) pt.1.1 pt.1.2.1 pt.1.2.2.1 pt.1.2.2.2 pt.2.1 pt.2.2.1 pt.2.2.2 ?_
  refine gc_letS (fun s22 => ?_)
  refine gc_aload_n hG (v := .ref v0) (refV_a _) dX5_init_83 rfl rfl ?_
  refine gc_iload_n hG dX5_init_84 rfl rfl ?_
  refine gc_gd (fun hk => ?_)
  have pt := pt_I (s := s22) (f := 28) (a := v0) (x := v3) rfl
  refine gc_putF hC tyX5 tyX5_ok nmX5 hk dX5_init_85 (ci := 4) (j := 2) (Or.inl (by decide)) rfl (by decide) in_X5 q288 (fun _ h => h) rfl (by rw [hnm]; rfl) rfl (tyX5_ok 2 (by decide)) (fun _ => rfl) (fun _ => rfl) pt.1.1 pt.1.2.1 pt.1.2.2.1 pt.1.2.2.2 pt.2.1 pt.2.2.1 pt.2.2.2 ?_
  refine gc_letS (fun s23 => ?_)
  refine gc_aload_n hG (v := .ref v0) (refV_a _) dX5_init_88 rfl rfl ?_
  refine gc_iload hG dX5_init_89 rfl ?_
  refine gc_gd (fun hk => ?_)
  have pt := pt_I (s := s23) (f := 29) (a := v0) (x := v4) rfl
  refine gc_putF hC tyX5 tyX5_ok nmX5 hk dX5_init_91 (ci := 4) (j := 3) (Or.inl (by decide)) rfl (by decide) in_X5 q290 (fun _ h => h) rfl (by rw [hnm]; rfl) rfl (tyX5_ok 3 (by decide)) (fun _ => rfl) (fun _ => rfl) pt.1.1 pt.1.2.1 pt.1.2.2.1 pt.1.2.2.2 pt.2.1 pt.2.2.1 pt.2.2.2 ?_
  refine gc_letS (fun s24 => ?_)
  refine gc_aload_n hG (v := .ref v0) (refV_a _) dX5_init_94 rfl rfl ?_
  refine gc_iload hG dX5_init_95 rfl ?_
  refine gc_gd (fun hk => ?_)
  have pt := pt_I (s := s24) (f := 31) (a := v0) (x := v5) rfl
  refine gc_putF hC tyX5 tyX5_ok nmX5 hk dX5_init_97 (ci := 4) (j := 5) (Or.inl (by decide)) rfl (by decide) in_X5 q294 (fun _ h => h) rfl (by rw [hnm]; rfl) rfl (tyX5_ok 5 (by decide)) (fun _ => rfl) (fun _ => rfl) pt.1.1 pt.1.2.1 pt.1.2.2.1 pt.1.2.2.2 pt.2.1 pt.2.2.1 pt.2.2.2 ?_
  refine gc_letS (fun s25 => ?_)
  refine gc_aload_n hG (v := .ref v0) (refV_a _) dX5_init_100 rfl rfl ?_
  refine gc_iload hG dX5_init_101 rfl ?_
  refine gc_gd (fun hk => ?_)
  have pt := pt_I (s := s25) (f := 32) (a := v0) (x := v6) rfl
  refine gc_putF hC tyX5 tyX5_ok nmX5 hk dX5_init_103 (ci := 4) (j := 6) (Or.inl (by decide)) rfl (by decide) in_X5 q297 (fun _ h => h) rfl (by rw [hnm]; rfl) rfl (tyX5_ok 6 (by decide)) (fun _ => rfl) (fun _ => rfl) pt.1.1 pt.1.2.1 pt.1.2.2.1 pt.1.2.2.2 pt.2.1 pt.2.2.1 pt.2.2.2 ?_
  refine gc_letS (fun s26 => ?_)
  refine gc_aload_n hG (v := .ref v0) (refV_a _) dX5_init_106 rfl rfl ?_
  refine gc_iload hG dX5_init_107 rfl ?_
  refine gc_callSN (f := fX0_strategyOf v4 s26) (As := [.int v4]) (rest := [.ref v0]) (n := 1) (d' := 1) hC hnL (wX0_strategyOf (gLn X) Y hl hY v4 s26) dX5_init_109 q264 q265 q74 q266 ⟨by decide +kernel, by decide +kernel⟩ rfl (by decide) (by decide) (Nat.le_of_ble_eq_true rfl) (kn_R (fun r27 s28 => ?_)) kx_R
  refine gc_gd (fun hk => ?_)
  have pt := pt_R (s := s28) (f := 30) (a := v0) (x := r27) rfl
  refine gc_putF hC tyX5 tyX5_ok nmX5 hk dX5_init_112 (ci := 4) (j := 4) (Or.inl (by decide)) rfl (by decide) in_X5 q292 (fun _ h => h) rfl (by rw [hnm]; rfl) rfl (tyX5_ok 4 (by decide)) (nar_o r27) (fit_o r27) pt.1.1 pt.1.2.1 pt.1.2.2.1 pt.1.2.2.2 pt.2.1 pt.2.2.1 pt.2.2.2 ?_
  refine gc_letS (fun s29 => ?_)
  refine gc_aload_n hG (v := .ref v0) (refV_a _) dX5_init_115 rfl rfl ?_
  refine gc_iload_n hG dX5_init_116 rfl rfl ?_
  refine gc_lamI (k := 33) hC hnL hmd (List.mem_of_getElem? (i := 3) rfl) rfl rfl (by decide +kernel) q1709 (by decide) dX5_init_117 (Nat.le_of_ble_eq_true rfl) ?_
  refine gc_letS (fun s30 => ?_)
  refine gc_gd (fun hk => ?_)
  have pt := pt_R (s := s30) (f := 41) (a := v0) (x := (some (cn s29))) rfl
  refine gc_putF hC tyX5 tyX5_ok nmX5 hk dX5_init_122 (ci := 4) (j := 15) (Or.inl (by decide)) rfl (by decide) in_X5 q324 (fun _ h => h) rfl (by rw [hnm]; rfl) rfl (tyX5_ok 15 (by decide)) (nar_o (some (cn s29))) (fit_o (some (cn s29))) pt.1.1 pt.1.2.1 pt.1.2.2.1 pt.1.2.2.2 pt.2.1 pt.2.2.1 pt.2.2.2 ?_
  refine gc_letS (fun s31 => ?_)
  refine gc_aload_n hG (v := .ref v0) (refV_a _) dX5_init_125 rfl rfl ?_
  refine gc_iload_n hG dX5_init_126 rfl rfl ?_
  refine gc_lamI (k := 34) hC hnL hmd (List.mem_of_getElem? (i := 4) rfl) rfl rfl (by decide +kernel) q1709 (by decide) dX5_init_127 (Nat.le_of_ble_eq_true rfl) ?_
  refine gc_letS (fun s32 => ?_)
  refine gc_gd (fun hk => ?_)
  have pt := pt_R (s := s32) (f := 42) (a := v0) (x := (some (cn s31))) rfl
  refine gc_putF hC tyX5 tyX5_ok nmX5 hk dX5_init_132 (ci := 4) (j := 16) (Or.inl (by decide)) rfl (by decide) in_X5 q325 (fun _ h => h) rfl (by rw [hnm]; rfl) rfl (tyX5_ok 16 (by decide)) (nar_o (some (cn s31))) (fit_o (some (cn s31))) pt.1.1 pt.1.2.1 pt.1.2.2.1 pt.1.2.2.2 pt.2.1 pt.2.2.1 pt.2.2.2 ?_
  refine gc_letS (fun s33 => ?_)
  refine gc_aload_n hG (v := .ref v0) (refV_a _) dX5_init_135 rfl rfl ?_
  refine gc_gd (fun hk => ?_)
  refine gc_get hC (ci := 4) (j := 9) (v := vr (cR s33 35 v0)) hk dX5_init_136 rfl (by decide) in_X5 q307 (fun _ h => h) rfl ?_
  refine gc_letr (fun x34 h_ => ?_)
  refine gc_iconst hG (nI 0) dX5_init_139 (by decide) ?_
  refine gc_iload_n hG dX5_init_140 rfl rfl ?_
  refine gc_rv (fun a35 h_ => ?_)
  subst h_
  refine gc_gd (fun hk => ?_)
  refine gc_iast hC hk.1 hk.2 dX5_init_141 ?_
  refine gc_letS (fun s36 => ?_)
  exact gc_vret hC hrt rfl dX5_init_142
def fX1_comes (v0 : Nat) (v1 : Int32) (v2 : Int32) (v3 : Int32) (v4 : Int32) (v5 : Int32) (t : cS) : Option (Int32 × cS) :=
  gd (cK t v0 = 2) (
  letv (cR t 6 v0) (fun x1 =>
  gd (cK t v0 = 2) (
  letv (cI t 7 v0) (fun x2 =>
  letv (sN t 5 0 17) (fun s3 =>
  gd (cK s3 v0 = 2) (
  letv (cI s3 7 v0) (fun x4 =>
  ob (fX5_init (cn t) x4 v1 v2 v3 v4 v5 s3) (fun r5 s6 =>
  rv x1 (fun a7 =>
  gd (cK s6 a7 = 23 ∧ cIn s6 a7 x2) (
  gd (cK s6 (cn t) = 5) (letv (sR s6 (er (x2).toNatClampNeg) a7 (some (cn t))) (fun s8 =>
  gd (cK s8 v0 = 2) (
  letv (cI s8 7 v0) (fun x9 =>
  gd (cK s8 v0 = 2) (
  letv (sI s8 7 v0 (x9 + (nI 1))) (fun s10 =>
  gd (cK s10 v0 = 2) (
  letv (cI s10 7 v0) (fun x11 =>
  (some (((x11 - (nI 1))), s10))
  )
  )
  )
  )
  )
  )
  ))
  )
  )
  )
  )
  )
  )
  )
  )
  )
  )
theorem mfX1_comes (v0 : Nat) (v1 : Int32) (v2 : Int32) (v3 : Int32) (v4 : Int32) (v5 : Int32) (t : cS) : MO t (fX1_comes v0 v1 v2 v3 v4 v5 t) := by
  unfold fX1_comes
  refine mo_gd ?_
  refine mo_letv (fun _ => ?_)
  refine mo_gd ?_
  refine mo_letv (fun _ => ?_)
  refine mo_letS cMo_sN (fun _ => ?_)
  refine mo_gd ?_
  refine mo_letv (fun _ => ?_)
  refine mo_ob (by apply mfX5_init) (fun _ _ => ?_)
  refine mo_rv (fun _ => ?_)
  refine mo_gd ?_
  refine mo_gd ?_
  refine mo_letS cMo_sR (fun _ => ?_)
  refine mo_gd ?_
  refine mo_letv (fun _ => ?_)
  refine mo_gd ?_
  refine mo_letS cMo_sI (fun _ => ?_)
  refine mo_gd ?_
  refine mo_letv (fun _ => ?_)
  exact mo_some
set_option maxHeartbeats 4000000 in
theorem wX1_comes (l : Launch) (Y : cY) (hl : l.stackTraces = false) (hY : ∀ q, q < Y.2.2.2.2.size → ¬ Y.2.2.2.1 q) (v0 : Nat) (v1 : Int32) (v2 : Int32) (v3 : Int32) (v4 : Int32) (v5 : Int32) (t : cS) : cFn l Y yX1_comes (ws_ yX1_comes cX1_comes 6 (some .int)) 3 [.ref v0, .int v1, .int v2, .int v3, .int v4, .int v5] t (fX1_comes v0 v1 v2 v3 v4 v5 t) rI := by
  refine cmet (av := [.ref v0, .int v1, .int v2, .int v3, .int v4, .int v5]) (mfX1_comes v0 v1 v2 v3 v4 v5 t) hl hY (by decide +kernel) (lg_le (List.forall_mem_cons.mpr ⟨rfl, List.forall_mem_cons.mpr ⟨rfl, List.forall_mem_cons.mpr ⟨rfl, List.forall_mem_cons.mpr ⟨rfl, List.forall_mem_cons.mpr ⟨rfl, List.forall_mem_cons.mpr ⟨rfl, fun _ h => absurd h List.not_mem_nil⟩⟩⟩⟩⟩⟩) (Nat.le_of_ble_eq_true rfl)) (lv_args_cat (List.forall_mem_cons.mpr ⟨rfl, List.forall_mem_cons.mpr ⟨rfl, List.forall_mem_cons.mpr ⟨rfl, List.forall_mem_cons.mpr ⟨rfl, List.forall_mem_cons.mpr ⟨rfl, List.forall_mem_cons.mpr ⟨rfl, fun _ h => absurd h List.not_mem_nil⟩⟩⟩⟩⟩⟩)) ?_
  intro X ad0 hln hC hnL hrt hnm hT hmd
  subst hln
  have hG := hC.1
  rw [lv_args_s (List.forall_mem_cons.mpr ⟨rfl, List.forall_mem_cons.mpr ⟨rfl, List.forall_mem_cons.mpr ⟨rfl, List.forall_mem_cons.mpr ⟨rfl, List.forall_mem_cons.mpr ⟨rfl, List.forall_mem_cons.mpr ⟨rfl, fun _ h => absurd h List.not_mem_nil⟩⟩⟩⟩⟩⟩)]
  show GC X Y (cM Y X 6 t ad0 rI) _ t 0 [(0, .ref v0), (1, .int v1), (2, .int v2), (3, .int v3), (4, .int v4), (5, .int v5)] []
  unfold fX1_comes
  refine gc_aload_n hG (v := .ref v0) (refV_a _) dX1_comes_0 rfl rfl ?_
  refine gc_gd (fun hk => ?_)
  refine gc_get hC (ci := 1) (j := 0) (v := vr (cR t 6 v0)) hk dX1_comes_1 rfl (by decide) in_X1 q158 (fun _ h => h) rfl ?_
  refine gc_letr (fun x1 h_ => ?_)
  refine gc_aload_n hG (v := .ref v0) (refV_a _) dX1_comes_4 rfl rfl ?_
  refine gc_gd (fun hk => ?_)
  refine gc_get hC (ci := 1) (j := 1) (v := .int (cI t 7 v0)) hk dX1_comes_5 rfl (by decide) in_X1 q162 (fun _ h => h) rfl ?_
  refine gc_letv (fun x2 h_ => ?_)
  refine gc_new hC (ci := 4) tyX5 tyX5_ok rfl in_X5 dX1_comes_8 q121 q256 q79 (by decide +kernel) ?_
  refine gc_letS (fun s3 => ?_)
  refine gc_dup hG dX1_comes_11 rfl ?_
  refine gc_aload_n hG (v := .ref v0) (refV_a _) dX1_comes_12 rfl rfl ?_
  refine gc_gd (fun hk => ?_)
  refine gc_get hC (ci := 1) (j := 1) (v := .int (cI s3 7 v0)) hk dX1_comes_13 rfl (by decide) in_X1 q162 (fun _ h => h) rfl ?_
  refine gc_letv (fun x4 h_ => ?_)
  refine gc_iload_n hG dX1_comes_16 rfl rfl ?_
  refine gc_iload_n hG dX1_comes_17 rfl rfl ?_
  refine gc_iload_n hG dX1_comes_18 rfl rfl ?_
  refine gc_iload hG dX1_comes_19 rfl ?_
  refine gc_iload hG dX1_comes_21 rfl ?_
  refine gc_callI (f := fX5_init (cn t) x4 v1 v2 v3 v4 v5 s3) (As := [.int x4, .int v1, .int v2, .int v3, .int v4, .int v5]) (rest := [.ref (cn t), .int x2, vr x1]) (n := 6) (d' := 2) (b := (cn t)) hC hnL (wX5_init (gLn X) Y hl hY (cn t) x4 v1 v2 v3 v4 v5 s3) dX1_comes_23 q257 q258 q79 q259 ⟨by decide +kernel, by decide +kernel⟩ rfl rfl (by decide) (by decide) (by simp [cat_vr, cat_r, cat_i, cat_n]) (kn_V (fun r5 s6 => ?_)) kx_V
  refine gc_rv (fun a7 h_ => ?_)
  subst h_
  refine gc_gd (fun hk => ?_)
  refine gc_gd (fun hx => ?_)
  refine gc_astA hC hk.1 hx hk.2 dX1_comes_26 ?_
  refine gc_letS (fun s8 => ?_)
  refine gc_aload_n hG (v := .ref v0) (refV_a _) dX1_comes_27 rfl rfl ?_
  refine gc_dup hG dX1_comes_28 rfl ?_
  refine gc_gd (fun hk => ?_)
  refine gc_get hC (ci := 1) (j := 1) (v := .int (cI s8 7 v0)) hk dX1_comes_29 rfl (by decide) in_X1 q162 (fun _ h => h) rfl ?_
  refine gc_letv (fun x9 h_ => ?_)
  refine gc_iconst hG (nI 1) dX1_comes_32 (by decide) ?_
  refine gc_iadd hG dX1_comes_33 ?_
  refine gc_gd (fun hk => ?_)
  have pt := pt_I (s := s8) (f := 7) (a := v0) (x := (x9 + (nI 1))) rfl
  refine gc_put hC tyX1 tyX1_ok nmX1 hk dX1_comes_34 (ci := 1) (j := 1) (Or.inl (by decide)) rfl (by decide) in_X1 q162 (fun _ h => h) rfl (tyX1_ok 1 (by decide)) (fun _ => rfl) (fun _ => rfl) pt.1.1 pt.1.2.1 pt.1.2.2.1 pt.1.2.2.2 pt.2.1 pt.2.2.1 pt.2.2.2 ?_
  refine gc_letS (fun s10 => ?_)
  refine gc_aload_n hG (v := .ref v0) (refV_a _) dX1_comes_37 rfl rfl ?_
  refine gc_gd (fun hk => ?_)
  refine gc_get hC (ci := 1) (j := 1) (v := .int (cI s10 7 v0)) hk dX1_comes_38 rfl (by decide) in_X1 q162 (fun _ h => h) rfl ?_
  refine gc_letv (fun x11 h_ => ?_)
  refine gc_iconst hG (nI 1) dX1_comes_41 (by decide) ?_
  refine gc_isub hG dX1_comes_42 ?_
  exact gc_iret hC hrt rfl rfl dX1_comes_43
def fX0_actor (v0 : Nat) (v1 : Int32) (v2 : Int32) (v3 : Int32) (t : cS) : Option (Int32 × cS) :=
  jn (fun (x1 : Int32) (t2 : cS) =>
    if x1 < 0 then
      (some (x1, t2))
    else
      gd (cK t2 v0 = 1) (
      letv (cR t2 1 v0) (fun x4 =>
      rv x4 (fun a5 =>
      gd (cK t2 a5 = 2) (
      ob (fX1_comes a5 v1 v2 (v3 / (nI 1000)) (irm (v3 / (nI 100)) (nI 10)) (irm v3 (nI 100)) t2) (fun r6 s7 =>
      (some (r6, s7))
      )
      )
      )
      )
      )
    ) (fun (j3 : Int32 → cS → Option (Int32 × cS)) =>
    if v3 < 0 then
      j3 (-1 : Int32) t
    else
      gd (cK t v0 = 1) (
      letv (cR t 1 v0) (fun x8 =>
      rv x8 (fun a9 =>
      gd (cK t a9 = 2) (
      ob (fX1_bars a9 v1 v2 (v3 / (nI 1000)) (irm (v3 / (nI 100)) (nI 10)) (irm v3 (nI 100)) t) (fun r10 s11 =>
      j3 r10 s11
      )
      )
      )
      )
      )
    )
theorem mfX0_actor (v0 : Nat) (v1 : Int32) (v2 : Int32) (v3 : Int32) (t : cS) : MO t (fX0_actor v0 v1 v2 v3 t) := by
  unfold fX0_actor
  refine mo_jn (fun j_ => ∀ ( x1 : Int32 ) ( t2 : cS ), MO t2 (j_ x1 t2)) (fun x1 t2 => ?_) (fun j3 hj3 => ?_)
  · refine mo_ite ?_ ?_
    · exact mo_some
    · refine mo_gd ?_
      refine mo_letv (fun _ => ?_)
      refine mo_rv (fun _ => ?_)
      refine mo_gd ?_
      refine mo_ob (by apply mfX1_comes) (fun _ _ => ?_)
      exact mo_some
  · refine mo_ite ?_ ?_
    · exact hj3 _ _
    · refine mo_gd ?_
      refine mo_letv (fun _ => ?_)
      refine mo_rv (fun _ => ?_)
      refine mo_gd ?_
      refine mo_ob (by apply mfX1_bars) (fun _ _ => ?_)
      exact hj3 _ _
set_option maxHeartbeats 4000000 in
theorem wX0_actor (l : Launch) (Y : cY) (hl : l.stackTraces = false) (hY : ∀ q, q < Y.2.2.2.2.size → ¬ Y.2.2.2.1 q) (v0 : Nat) (v1 : Int32) (v2 : Int32) (v3 : Int32) (t : cS) : cFn l Y yX0_actor (ws_ yX0_actor cX0_actor 5 (some .int)) 4 [.ref v0, .int v1, .int v2, .int v3] t (fX0_actor v0 v1 v2 v3 t) rI := by
  refine cmet (av := [.ref v0, .int v1, .int v2, .int v3]) (mfX0_actor v0 v1 v2 v3 t) hl hY (by decide +kernel) (lg_le (List.forall_mem_cons.mpr ⟨rfl, List.forall_mem_cons.mpr ⟨rfl, List.forall_mem_cons.mpr ⟨rfl, List.forall_mem_cons.mpr ⟨rfl, fun _ h => absurd h List.not_mem_nil⟩⟩⟩⟩) (Nat.le_of_ble_eq_true rfl)) (lv_args_cat (List.forall_mem_cons.mpr ⟨rfl, List.forall_mem_cons.mpr ⟨rfl, List.forall_mem_cons.mpr ⟨rfl, List.forall_mem_cons.mpr ⟨rfl, fun _ h => absurd h List.not_mem_nil⟩⟩⟩⟩)) ?_
  intro X ad0 hln hC hnL hrt hnm hT hmd
  subst hln
  have hG := hC.1
  rw [lv_args_s (List.forall_mem_cons.mpr ⟨rfl, List.forall_mem_cons.mpr ⟨rfl, List.forall_mem_cons.mpr ⟨rfl, List.forall_mem_cons.mpr ⟨rfl, fun _ h => absurd h List.not_mem_nil⟩⟩⟩⟩)]
  show GC X Y (cM Y X 5 t ad0 rI) _ t 0 [(0, .ref v0), (1, .int v1), (2, .int v2), (3, .int v3)] []
  unfold fX0_actor
  refine gc_iload_n hG dX0_actor_0 rfl rfl ?_
  refine gc_jn (fun j_ => ∀ (x1 : Int32) (t2 : cS), GC X Y (cM Y X 5 t ad0 rI) (j_ x1 t2) t2 33 [(0, .ref v0), (1, .int v1), (2, .int v2), (3, .int v3)] [.int x1]) (fun x1 t2 => ?_) (fun j3 hj3 => ?_)
  · refine gc_istore hG dX0_actor_33 (Nat.le_of_ble_eq_true rfl) (lv' := [(0, _), (1, _), (2, _), (3, _), (4, _)]) rfl ?_
    refine gc_iload hG dX0_actor_35 rfl ?_
    refine gc_if_ge hG (tgt := 45) dX0_actor_37 (by decide) ?_ ?_
    · refine gc_iload hG dX0_actor_40 rfl ?_
      refine gc_goto hG (tgt := 70) dX0_actor_42 (by decide) ?_
      exact gc_iret hC hrt rfl rfl dX0_actor_70
    · refine gc_aload_n hG (v := .ref v0) (refV_a _) dX0_actor_45 rfl rfl ?_
      refine gc_gd (fun hk => ?_)
      refine gc_get hC (ci := 0) (j := 0) (v := vr (cR t2 1 v0)) hk dX0_actor_46 rfl (by decide) in_X0 q224 (fun _ h => h) rfl ?_
      refine gc_letr (fun x4 h_ => ?_)
      refine gc_iload_n hG dX0_actor_49 rfl rfl ?_
      refine gc_iload_n hG dX0_actor_50 rfl rfl ?_
      refine gc_iload_n hG dX0_actor_51 rfl rfl ?_
      refine gc_sipush hG (nI 1000) dX0_actor_52 (by decide) ?_
      refine gc_idiv hG dX0_actor_55 (by decide) ?_
      refine gc_iload_n hG dX0_actor_56 rfl rfl ?_
      refine gc_bipush hG (nI 100) dX0_actor_57 (by decide) ?_
      refine gc_idiv hG dX0_actor_59 (by decide) ?_
      refine gc_bipush hG (nI 10) dX0_actor_60 (by decide) ?_
      refine gc_irem hG dX0_actor_62 (by decide) ?_
      refine gc_iload_n hG dX0_actor_63 rfl rfl ?_
      refine gc_bipush hG (nI 100) dX0_actor_64 (by decide) ?_
      refine gc_irem hG dX0_actor_66 (by decide) ?_
      refine gc_rv (fun a5 h_ => ?_)
      subst h_
      refine gc_gd (fun hk => ?_)
      refine gc_callV (f := fX1_comes a5 v1 v2 (v3 / (nI 1000)) (irm (v3 / (nI 100)) (nI 10)) (irm v3 (nI 100)) t2) (As := [.int v1, .int v2, .int (v3 / (nI 1000)), .int (irm (v3 / (nI 100)) (nI 10)), .int (irm v3 (nI 100))]) (rest := []) (n := 5) (d' := 3) (b := a5) hC hnL (wX1_comes (gLn X) Y hl hY a5 v1 v2 (v3 / (nI 1000)) (irm (v3 / (nI 100)) (nI 10)) (irm v3 (nI 100)) t2) hk (ci := 1) rfl dX0_actor_67 q252 q253 q254 q75 q255 ⟨by decide +kernel, by decide +kernel⟩ rfl (by decide) (by decide) (Nat.le_of_ble_eq_true rfl) (kn_I (fun r6 s7 => ?_)) kx_I
      exact gc_iret hC hrt rfl rfl dX0_actor_70
  · refine gc_if_ge hG (tgt := 8) dX0_actor_1 (by decide) ?_ ?_
    · refine gc_iconst hG (-1 : Int32) dX0_actor_4 (by decide) ?_
      refine gc_goto hG (tgt := 33) dX0_actor_5 (by decide) ?_
      exact hj3 (-1 : Int32) t
    · refine gc_aload_n hG (v := .ref v0) (refV_a _) dX0_actor_8 rfl rfl ?_
      refine gc_gd (fun hk => ?_)
      refine gc_get hC (ci := 0) (j := 0) (v := vr (cR t 1 v0)) hk dX0_actor_9 rfl (by decide) in_X0 q224 (fun _ h => h) rfl ?_
      refine gc_letr (fun x8 h_ => ?_)
      refine gc_iload_n hG dX0_actor_12 rfl rfl ?_
      refine gc_iload_n hG dX0_actor_13 rfl rfl ?_
      refine gc_iload_n hG dX0_actor_14 rfl rfl ?_
      refine gc_sipush hG (nI 1000) dX0_actor_15 (by decide) ?_
      refine gc_idiv hG dX0_actor_18 (by decide) ?_
      refine gc_iload_n hG dX0_actor_19 rfl rfl ?_
      refine gc_bipush hG (nI 100) dX0_actor_20 (by decide) ?_
      refine gc_idiv hG dX0_actor_22 (by decide) ?_
      refine gc_bipush hG (nI 10) dX0_actor_23 (by decide) ?_
      refine gc_irem hG dX0_actor_25 (by decide) ?_
      refine gc_iload_n hG dX0_actor_26 rfl rfl ?_
      refine gc_bipush hG (nI 100) dX0_actor_27 (by decide) ?_
      refine gc_irem hG dX0_actor_29 (by decide) ?_
      refine gc_rv (fun a9 h_ => ?_)
      subst h_
      refine gc_gd (fun hk => ?_)
      refine gc_callV (f := fX1_bars a9 v1 v2 (v3 / (nI 1000)) (irm (v3 / (nI 100)) (nI 10)) (irm v3 (nI 100)) t) (As := [.int v1, .int v2, .int (v3 / (nI 1000)), .int (irm (v3 / (nI 100)) (nI 10)), .int (irm v3 (nI 100))]) (rest := []) (n := 5) (d' := 2) (b := a9) hC hnL (wX1_bars (gLn X) Y hl hY a9 v1 v2 (v3 / (nI 1000)) (irm (v3 / (nI 100)) (nI 10)) (irm v3 (nI 100)) t) hk (ci := 1) rfl dX0_actor_30 q245 q246 q247 q75 q248 ⟨by decide +kernel, by decide +kernel⟩ rfl (by decide) (by decide) (Nat.le_of_ble_eq_true rfl) (kn_I (fun r10 s11 => ?_)) kx_I
      exact hj3 r10 s11
def fX0_lambda_strategyOf_0 (v0 : Int32) (v1 : Int32) (t : cS) : Option (Int32 × cS) :=
  if v1 = v0 then
    (some ((nI 1), t))
  else
    (some ((nI 0), t))
theorem mfX0_lambda_strategyOf_0 (v0 : Int32) (v1 : Int32) (t : cS) : MO t (fX0_lambda_strategyOf_0 v0 v1 t) := by
  unfold fX0_lambda_strategyOf_0
  refine mo_ite ?_ ?_
  · exact mo_some
  · exact mo_some
set_option maxHeartbeats 4000000 in
theorem wX0_lambda_strategyOf_0 (l : Launch) (Y : cY) (hl : l.stackTraces = false) (hY : ∀ q, q < Y.2.2.2.2.size → ¬ Y.2.2.2.1 q) (v0 : Int32) (v1 : Int32) (t : cS) : cFn l Y yX0_lambda_strategyOf_0 (ws_ yX0_lambda_strategyOf_0 cX0_lambda_strategyOf_0 2 (some .boolean)) 1 [.int v0, .int v1] t (fX0_lambda_strategyOf_0 v0 v1 t) rI := by
  refine cmet (av := [.int v0, .int v1]) (mfX0_lambda_strategyOf_0 v0 v1 t) hl hY (by decide +kernel) (lg_le (List.forall_mem_cons.mpr ⟨rfl, List.forall_mem_cons.mpr ⟨rfl, fun _ h => absurd h List.not_mem_nil⟩⟩) (Nat.le_of_ble_eq_true rfl)) (lv_args_cat (List.forall_mem_cons.mpr ⟨rfl, List.forall_mem_cons.mpr ⟨rfl, fun _ h => absurd h List.not_mem_nil⟩⟩)) ?_
  intro X ad0 hln hC hnL hrt hnm hT hmd
  subst hln
  have hG := hC.1
  rw [lv_args_s (List.forall_mem_cons.mpr ⟨rfl, List.forall_mem_cons.mpr ⟨rfl, fun _ h => absurd h List.not_mem_nil⟩⟩)]
  show GC X Y (cM Y X 2 t ad0 rI) _ t 0 [(0, .int v0), (1, .int v1)] []
  unfold fX0_lambda_strategyOf_0
  refine gc_iload_n hG dX0_lambda_strategyOf_0_0 rfl rfl ?_
  refine gc_iload_n hG dX0_lambda_strategyOf_0_1 rfl rfl ?_
  refine gc_icmp_ne hG (tgt := 9) dX0_lambda_strategyOf_0_2 (by decide) ?_ ?_
  · refine gc_iconst hG (nI 1) dX0_lambda_strategyOf_0_5 (by decide) ?_
    refine gc_goto hG (tgt := 10) dX0_lambda_strategyOf_0_6 (by decide) ?_
    exact gc_iret hC hrt (by decide) rfl dX0_lambda_strategyOf_0_10
  · refine gc_iconst hG (nI 0) dX0_lambda_strategyOf_0_9 (by decide) ?_
    exact gc_iret hC hrt (by decide) rfl dX0_lambda_strategyOf_0_10
def fX0_lambda_strategyOf_1 (v0 : Int32) (v1 : Int32) (t : cS) : Option (Int32 × cS) :=
  (some ((nI 1), t))
theorem mfX0_lambda_strategyOf_1 (v0 : Int32) (v1 : Int32) (t : cS) : MO t (fX0_lambda_strategyOf_1 v0 v1 t) := by
  unfold fX0_lambda_strategyOf_1
  exact mo_some
set_option maxHeartbeats 4000000 in
theorem wX0_lambda_strategyOf_1 (l : Launch) (Y : cY) (hl : l.stackTraces = false) (hY : ∀ q, q < Y.2.2.2.2.size → ¬ Y.2.2.2.1 q) (v0 : Int32) (v1 : Int32) (t : cS) : cFn l Y yX0_lambda_strategyOf_1 (ws_ yX0_lambda_strategyOf_1 cX0_lambda_strategyOf_1 2 (some .boolean)) 1 [.int v0, .int v1] t (fX0_lambda_strategyOf_1 v0 v1 t) rI := by
  refine cmet (av := [.int v0, .int v1]) (mfX0_lambda_strategyOf_1 v0 v1 t) hl hY (by decide +kernel) (lg_le (List.forall_mem_cons.mpr ⟨rfl, List.forall_mem_cons.mpr ⟨rfl, fun _ h => absurd h List.not_mem_nil⟩⟩) (Nat.le_of_ble_eq_true rfl)) (lv_args_cat (List.forall_mem_cons.mpr ⟨rfl, List.forall_mem_cons.mpr ⟨rfl, fun _ h => absurd h List.not_mem_nil⟩⟩)) ?_
  intro X ad0 hln hC hnL hrt hnm hT hmd
  subst hln
  have hG := hC.1
  rw [lv_args_s (List.forall_mem_cons.mpr ⟨rfl, List.forall_mem_cons.mpr ⟨rfl, fun _ h => absurd h List.not_mem_nil⟩⟩)]
  show GC X Y (cM Y X 2 t ad0 rI) _ t 0 [(0, .int v0), (1, .int v1)] []
  unfold fX0_lambda_strategyOf_1
  refine gc_iconst hG (nI 1) dX0_lambda_strategyOf_1_0 (by decide) ?_
  exact gc_iret hC hrt (by decide) rfl dX0_lambda_strategyOf_1_1
def fX0_lambda_strategyOf_2 (v0 : Int32) (v1 : Int32) (t : cS) : Option (Int32 × cS) :=
  if v1 < v0 then
    (some ((nI 0), t))
  else
    (some ((nI 1), t))
theorem mfX0_lambda_strategyOf_2 (v0 : Int32) (v1 : Int32) (t : cS) : MO t (fX0_lambda_strategyOf_2 v0 v1 t) := by
  unfold fX0_lambda_strategyOf_2
  refine mo_ite ?_ ?_
  · exact mo_some
  · exact mo_some
set_option maxHeartbeats 4000000 in
theorem wX0_lambda_strategyOf_2 (l : Launch) (Y : cY) (hl : l.stackTraces = false) (hY : ∀ q, q < Y.2.2.2.2.size → ¬ Y.2.2.2.1 q) (v0 : Int32) (v1 : Int32) (t : cS) : cFn l Y yX0_lambda_strategyOf_2 (ws_ yX0_lambda_strategyOf_2 cX0_lambda_strategyOf_2 2 (some .boolean)) 1 [.int v0, .int v1] t (fX0_lambda_strategyOf_2 v0 v1 t) rI := by
  refine cmet (av := [.int v0, .int v1]) (mfX0_lambda_strategyOf_2 v0 v1 t) hl hY (by decide +kernel) (lg_le (List.forall_mem_cons.mpr ⟨rfl, List.forall_mem_cons.mpr ⟨rfl, fun _ h => absurd h List.not_mem_nil⟩⟩) (Nat.le_of_ble_eq_true rfl)) (lv_args_cat (List.forall_mem_cons.mpr ⟨rfl, List.forall_mem_cons.mpr ⟨rfl, fun _ h => absurd h List.not_mem_nil⟩⟩)) ?_
  intro X ad0 hln hC hnL hrt hnm hT hmd
  subst hln
  have hG := hC.1
  rw [lv_args_s (List.forall_mem_cons.mpr ⟨rfl, List.forall_mem_cons.mpr ⟨rfl, fun _ h => absurd h List.not_mem_nil⟩⟩)]
  show GC X Y (cM Y X 2 t ad0 rI) _ t 0 [(0, .int v0), (1, .int v1)] []
  unfold fX0_lambda_strategyOf_2
  refine gc_iload_n hG dX0_lambda_strategyOf_2_0 rfl rfl ?_
  refine gc_iload_n hG dX0_lambda_strategyOf_2_1 rfl rfl ?_
  refine gc_icmp_lt hG (tgt := 9) dX0_lambda_strategyOf_2_2 (by decide) ?_ ?_
  · refine gc_iconst hG (nI 0) dX0_lambda_strategyOf_2_9 (by decide) ?_
    exact gc_iret hC hrt (by decide) rfl dX0_lambda_strategyOf_2_10
  · refine gc_iconst hG (nI 1) dX0_lambda_strategyOf_2_5 (by decide) ?_
    refine gc_goto hG (tgt := 10) dX0_lambda_strategyOf_2_6 (by decide) ?_
    exact gc_iret hC hrt (by decide) rfl dX0_lambda_strategyOf_2_10
def fX0_isActor (v0 : Nat) (v1 : Int32) (t : cS) : Option (Int32 × cS) :=
  if v1 < 0 then
    (some ((nI 0), t))
  else
    gd (cK t v0 = 1) (
    letv (cR t 1 v0) (fun x1 =>
    rv x1 (fun a2 =>
    gd (cK t a2 = 2) (
    letv (cI t 7 a2) (fun x3 =>
    if v1 < x3 then
      (some ((nI 1), t))
    else
      (some ((nI 0), t))
    )
    )
    )
    )
    )
theorem mfX0_isActor (v0 : Nat) (v1 : Int32) (t : cS) : MO t (fX0_isActor v0 v1 t) := by
  unfold fX0_isActor
  refine mo_ite ?_ ?_
  · exact mo_some
  · refine mo_gd ?_
    refine mo_letv (fun _ => ?_)
    refine mo_rv (fun _ => ?_)
    refine mo_gd ?_
    refine mo_letv (fun _ => ?_)
    refine mo_ite ?_ ?_
    · exact mo_some
    · exact mo_some
set_option maxHeartbeats 4000000 in
theorem wX0_isActor (l : Launch) (Y : cY) (hl : l.stackTraces = false) (hY : ∀ q, q < Y.2.2.2.2.size → ¬ Y.2.2.2.1 q) (v0 : Nat) (v1 : Int32) (t : cS) : cFn l Y yX0_isActor (ws_ yX0_isActor cX0_isActor 2 (some .boolean)) 1 [.ref v0, .int v1] t (fX0_isActor v0 v1 t) rI := by
  refine cmet (av := [.ref v0, .int v1]) (mfX0_isActor v0 v1 t) hl hY (by decide +kernel) (lg_le (List.forall_mem_cons.mpr ⟨rfl, List.forall_mem_cons.mpr ⟨rfl, fun _ h => absurd h List.not_mem_nil⟩⟩) (Nat.le_of_ble_eq_true rfl)) (lv_args_cat (List.forall_mem_cons.mpr ⟨rfl, List.forall_mem_cons.mpr ⟨rfl, fun _ h => absurd h List.not_mem_nil⟩⟩)) ?_
  intro X ad0 hln hC hnL hrt hnm hT hmd
  subst hln
  have hG := hC.1
  rw [lv_args_s (List.forall_mem_cons.mpr ⟨rfl, List.forall_mem_cons.mpr ⟨rfl, fun _ h => absurd h List.not_mem_nil⟩⟩)]
  show GC X Y (cM Y X 2 t ad0 rI) _ t 0 [(0, .ref v0), (1, .int v1)] []
  unfold fX0_isActor
  refine gc_iload_n hG dX0_isActor_0 rfl rfl ?_
  refine gc_if_lt hG (tgt := 19) dX0_isActor_1 (by decide) ?_ ?_
  · refine gc_iconst hG (nI 0) dX0_isActor_19 (by decide) ?_
    exact gc_iret hC hrt (by decide) rfl dX0_isActor_20
  · refine gc_iload_n hG dX0_isActor_4 rfl rfl ?_
    refine gc_aload_n hG (v := .ref v0) (refV_a _) dX0_isActor_5 rfl rfl ?_
    refine gc_gd (fun hk => ?_)
    refine gc_get hC (ci := 0) (j := 0) (v := vr (cR t 1 v0)) hk dX0_isActor_6 rfl (by decide) in_X0 q224 (fun _ h => h) rfl ?_
    refine gc_letr (fun x1 h_ => ?_)
    refine gc_rv (fun a2 h_ => ?_)
    subst h_
    refine gc_gd (fun hk => ?_)
    refine gc_getN hC (ci := 1) (j := 1) (v := .int (cI t 7 a2)) hk dX0_isActor_9 rfl (by decide) in_X1 q164 (fun _ h => h) rfl ?_
    refine gc_letv (fun x3 h_ => ?_)
    refine gc_icmp_ge hG (tgt := 19) dX0_isActor_12 (by decide) ?_ ?_
    · refine gc_iconst hG (nI 1) dX0_isActor_15 (by decide) ?_
      refine gc_goto hG (tgt := 20) dX0_isActor_16 (by decide) ?_
      exact gc_iret hC hrt (by decide) rfl dX0_isActor_20
    · refine gc_iconst hG (nI 0) dX0_isActor_19 (by decide) ?_
      exact gc_iret hC hrt (by decide) rfl dX0_isActor_20
def fX2_links (v0 : Nat) (v1 : Option Nat) (t : cS) : Option (Unit × cS) :=
  gd (cK t v0 = 3) (
  letv (cR t 23 v0) (fun x1 =>
  jn (fun  (t2 : cS) =>
    gd (cK t2 v0 = 3) (
    letv (sR t2 23 v0 v1) (fun s4 =>
    gd (cK s4 v0 = 3) (
    letv (cI s4 24 v0) (fun x5 =>
    gd (cK s4 v0 = 3) (
    letv (sI s4 24 v0 (x5 + (nI 1))) (fun s6 =>
    (some ((), s6))
    )
    )
    )
    )
    )
    )
    ) (fun (j3 : cS → Option (Unit × cS)) =>
    onul x1 (
      gd (cK t v0 = 3) (
      letv (sR t 22 v0 v1) (fun s8 =>
      j3 s8
      )
      )
    ) (fun a7 =>
      gd (cK t v0 = 3) (
      letv (cR t 23 v0) (fun x9 =>
      rv x9 (fun a10 =>
      gd (cK t a10 = 7) (
      letv (sR t 46 a10 v1) (fun s11 =>
      j3 s11
      )
      )
      )
      )
      )
    )
    )
  )
  )
theorem mfX2_links (v0 : Nat) (v1 : Option Nat) (t : cS) : MO t (fX2_links v0 v1 t) := by
  unfold fX2_links
  refine mo_gd ?_
  refine mo_letv (fun _ => ?_)
  refine mo_jn (fun j_ => ∀ ( t2 : cS ), MO t2 (j_ t2)) (fun t2 => ?_) (fun j3 hj3 => ?_)
  · refine mo_gd ?_
    refine mo_letS cMo_sR (fun _ => ?_)
    refine mo_gd ?_
    refine mo_letv (fun _ => ?_)
    refine mo_gd ?_
    refine mo_letS cMo_sI (fun _ => ?_)
    exact mo_some
  · refine mo_onul ?_ (fun _ => ?_)
    · refine mo_gd ?_
      refine mo_letS cMo_sR (fun _ => ?_)
      exact hj3 _
    · refine mo_gd ?_
      refine mo_letv (fun _ => ?_)
      refine mo_rv (fun _ => ?_)
      refine mo_gd ?_
      refine mo_letS cMo_sR (fun _ => ?_)
      exact hj3 _
set_option maxHeartbeats 4000000 in
theorem wX2_links (l : Launch) (Y : cY) (hl : l.stackTraces = false) (hY : ∀ q, q < Y.2.2.2.2.size → ¬ Y.2.2.2.1 q) (v0 : Nat) (v1 : Option Nat) (t : cS) : cFn l Y yX2_links (ws_ yX2_links cX2_links 2 none) 1 [.ref v0, vr v1] t (fX2_links v0 v1 t) rV := by
  refine cmet (av := [.ref v0, vr v1]) (mfX2_links v0 v1 t) hl hY (by decide +kernel) (lg_le (List.forall_mem_cons.mpr ⟨rfl, List.forall_mem_cons.mpr ⟨(cat_vr _), fun _ h => absurd h List.not_mem_nil⟩⟩) (Nat.le_of_ble_eq_true rfl)) (lv_args_cat (List.forall_mem_cons.mpr ⟨rfl, List.forall_mem_cons.mpr ⟨(cat_vr _), fun _ h => absurd h List.not_mem_nil⟩⟩)) ?_
  intro X ad0 hln hC hnL hrt hnm hT hmd
  subst hln
  have hG := hC.1
  rw [lv_args_s (List.forall_mem_cons.mpr ⟨rfl, List.forall_mem_cons.mpr ⟨(cat_vr _), fun _ h => absurd h List.not_mem_nil⟩⟩)]
  show GC X Y (cM Y X 2 t ad0 rV) _ t 0 [(0, .ref v0), (1, vr v1)] []
  unfold fX2_links
  refine gc_aload_n hG (v := .ref v0) (refV_a _) dX2_links_0 rfl rfl ?_
  refine gc_gd (fun hk => ?_)
  refine gc_get hC (ci := 2) (j := 2) (v := vr (cR t 23 v0)) hk dX2_links_1 rfl (by decide) in_X2 q133 (fun _ h => h) rfl ?_
  refine gc_letr (fun x1 h_ => ?_)
  refine gc_jn (fun j_ => ∀  (t2 : cS), GC X Y (cM Y X 2 t ad0 rV) (j_ t2) t2 23 [(0, .ref v0), (1, vr v1)] []) (fun t2 => ?_) (fun j3 hj3 => ?_)
  · refine gc_aload_n hG (v := .ref v0) (refV_a _) dX2_links_23 rfl rfl ?_
    refine gc_aload_n hG (v := vr v1) (refV_x _) dX2_links_24 rfl rfl ?_
    refine gc_gd (fun hk => ?_)
    have pt := pt_R (s := t2) (f := 23) (a := v0) (x := v1) rfl
    refine gc_put hC tyX2 tyX2_ok nmX2 hk dX2_links_25 (ci := 2) (j := 2) (Or.inl (by decide)) rfl (by decide) in_X2 q133 (fun _ h => h) rfl (tyX2_ok 2 (by decide)) (nar_o v1) (fit_o v1) pt.1.1 pt.1.2.1 pt.1.2.2.1 pt.1.2.2.2 pt.2.1 pt.2.2.1 pt.2.2.2 ?_
    refine gc_letS (fun s4 => ?_)
    refine gc_aload_n hG (v := .ref v0) (refV_a _) dX2_links_28 rfl rfl ?_
    refine gc_dup hG dX2_links_29 rfl ?_
    refine gc_gd (fun hk => ?_)
    refine gc_get hC (ci := 2) (j := 3) (v := .int (cI s4 24 v0)) hk dX2_links_30 rfl (by decide) in_X2 q134 (fun _ h => h) rfl ?_
    refine gc_letv (fun x5 h_ => ?_)
    refine gc_iconst hG (nI 1) dX2_links_33 (by decide) ?_
    refine gc_iadd hG dX2_links_34 ?_
    refine gc_gd (fun hk => ?_)
    have pt := pt_I (s := s4) (f := 24) (a := v0) (x := (x5 + (nI 1))) rfl
    refine gc_put hC tyX2 tyX2_ok nmX2 hk dX2_links_35 (ci := 2) (j := 3) (Or.inl (by decide)) rfl (by decide) in_X2 q134 (fun _ h => h) rfl (tyX2_ok 3 (by decide)) (fun _ => rfl) (fun _ => rfl) pt.1.1 pt.1.2.1 pt.1.2.2.1 pt.1.2.2.2 pt.2.1 pt.2.2.1 pt.2.2.2 ?_
    refine gc_letS (fun s6 => ?_)
    exact gc_vret hC hrt rfl dX2_links_38
  · refine gc_ifnonnull hG (tgt := 15) dX2_links_4 (by decide) (fun h_ => ?_) (fun a7 h_ => ?_)
    · subst h_
      refine gc_aload_n hG (v := .ref v0) (refV_a _) dX2_links_7 rfl rfl ?_
      refine gc_aload_n hG (v := vr v1) (refV_x _) dX2_links_8 rfl rfl ?_
      refine gc_gd (fun hk => ?_)
      have pt := pt_R (s := t) (f := 22) (a := v0) (x := v1) rfl
      refine gc_put hC tyX2 tyX2_ok nmX2 hk dX2_links_9 (ci := 2) (j := 1) (Or.inl (by decide)) rfl (by decide) in_X2 q131 (fun _ h => h) rfl (tyX2_ok 1 (by decide)) (nar_o v1) (fit_o v1) pt.1.1 pt.1.2.1 pt.1.2.2.1 pt.1.2.2.2 pt.2.1 pt.2.2.1 pt.2.2.2 ?_
      refine gc_letS (fun s8 => ?_)
      refine gc_goto hG (tgt := 23) dX2_links_12 (by decide) ?_
      exact hj3 s8
    · subst h_
      refine gc_aload_n hG (v := .ref v0) (refV_a _) dX2_links_15 rfl rfl ?_
      refine gc_gd (fun hk => ?_)
      refine gc_get hC (ci := 2) (j := 2) (v := vr (cR t 23 v0)) hk dX2_links_16 rfl (by decide) in_X2 q133 (fun _ h => h) rfl ?_
      refine gc_letr (fun x9 h_ => ?_)
      refine gc_aload_n hG (v := vr v1) (refV_x _) dX2_links_19 rfl rfl ?_
      refine gc_rv (fun a10 h_ => ?_)
      subst h_
      refine gc_gd (fun hk => ?_)
      have pt := pt_R (s := t) (f := 46) (a := a10) (x := v1) rfl
      refine gc_putN hC tyX8 tyX8_ok nmX8 hk dX2_links_20 (ci := 6) (j := 1) (Or.inl (by decide)) rfl (by decide) in_X8 q409 (fun _ h => h) rfl (tyX8_ok 1 (by decide)) (nar_o v1) (fit_o v1) pt.1.1 pt.1.2.1 pt.1.2.2.1 pt.1.2.2.2 pt.2.1 pt.2.2.1 pt.2.2.2 ?_
      refine gc_letS (fun s11 => ?_)
      exact hj3 s11
def fX8_init (v0 : Nat) (v1 : Option Nat) (v2 : Option Nat) (t : cS) : Option (Unit × cS) :=
  gd (cK t v0 = 7) (
  letv (sR t 47 v0 v1) (fun s1 =>
  gd (cK s1 v0 = 7) (
  letv (sR s1 45 v0 v2) (fun s2 =>
  (some ((), s2))
  )
  )
  )
  )
theorem mfX8_init (v0 : Nat) (v1 : Option Nat) (v2 : Option Nat) (t : cS) : MO t (fX8_init v0 v1 v2 t) := by
  unfold fX8_init
  refine mo_gd ?_
  refine mo_letS cMo_sR (fun _ => ?_)
  refine mo_gd ?_
  refine mo_letS cMo_sR (fun _ => ?_)
  exact mo_some
set_option maxHeartbeats 4000000 in
theorem wX8_init (l : Launch) (Y : cY) (hl : l.stackTraces = false) (hY : ∀ q, q < Y.2.2.2.2.size → ¬ Y.2.2.2.1 q) (v0 : Nat) (v1 : Option Nat) (v2 : Option Nat) (t : cS) : cFn l Y yX8_init (ws_ yX8_init cX8_init 3 none) 1 [.ref v0, vr v1, vr v2] t (fX8_init v0 v1 v2 t) rV := by
  refine cmet (av := [.ref v0, vr v1, vr v2]) (mfX8_init v0 v1 v2 t) hl hY (by decide +kernel) (lg_le (List.forall_mem_cons.mpr ⟨rfl, List.forall_mem_cons.mpr ⟨(cat_vr _), List.forall_mem_cons.mpr ⟨(cat_vr _), fun _ h => absurd h List.not_mem_nil⟩⟩⟩) (Nat.le_of_ble_eq_true rfl)) (lv_args_cat (List.forall_mem_cons.mpr ⟨rfl, List.forall_mem_cons.mpr ⟨(cat_vr _), List.forall_mem_cons.mpr ⟨(cat_vr _), fun _ h => absurd h List.not_mem_nil⟩⟩⟩)) ?_
  intro X ad0 hln hC hnL hrt hnm hT hmd
  subst hln
  have hG := hC.1
  rw [lv_args_s (List.forall_mem_cons.mpr ⟨rfl, List.forall_mem_cons.mpr ⟨(cat_vr _), List.forall_mem_cons.mpr ⟨(cat_vr _), fun _ h => absurd h List.not_mem_nil⟩⟩⟩)]
  show GC X Y (cM Y X 3 t ad0 rV) _ t 0 [(0, .ref v0), (1, vr v1), (2, vr v2)] []
  unfold fX8_init
  refine gc_aload_n hG (v := .ref v0) (refV_a _) dX8_init_0 rfl rfl ?_
  refine gc_aload_n hG (v := vr v1) (refV_x _) dX8_init_1 rfl rfl ?_
  refine gc_gd (fun hk => ?_)
  have pt := pt_R (s := t) (f := 47) (a := v0) (x := v1) rfl
  refine gc_putF hC tyX8 tyX8_ok nmX8 hk dX8_init_2 (ci := 6) (j := 2) (Or.inl (by decide)) rfl (by decide) in_X8 q410 (fun _ h => h) rfl (by rw [hnm]; rfl) rfl (tyX8_ok 2 (by decide)) (nar_o v1) (fit_o v1) pt.1.1 pt.1.2.1 pt.1.2.2.1 pt.1.2.2.2 pt.2.1 pt.2.2.1 pt.2.2.2 ?_
  refine gc_letS (fun s1 => ?_)
  refine gc_aload_n hG (v := .ref v0) (refV_a _) dX8_init_5 rfl rfl ?_
  refine gc_objInit hC hnL q403 q113 q114 dX8_init_6 (Nat.le_of_ble_eq_true rfl) ?_
  refine gc_aload_n hG (v := .ref v0) (refV_a _) dX8_init_9 rfl rfl ?_
  refine gc_aload_n hG (v := vr v2) (refV_x _) dX8_init_10 rfl rfl ?_
  refine gc_gd (fun hk => ?_)
  have pt := pt_R (s := s1) (f := 45) (a := v0) (x := v2) rfl
  refine gc_putF hC tyX8 tyX8_ok nmX8 hk dX8_init_11 (ci := 6) (j := 0) (Or.inl (by decide)) rfl (by decide) in_X8 q404 (fun _ h => h) rfl (by rw [hnm]; rfl) rfl (tyX8_ok 0 (by decide)) (nar_o v2) (fit_o v2) pt.1.1 pt.1.2.1 pt.1.2.2.1 pt.1.2.2.2 pt.2.1 pt.2.2.1 pt.2.2.2 ?_
  refine gc_letS (fun s2 => ?_)
  exact gc_vret hC hrt rfl dX8_init_14
def fX2_puts (v0 : Nat) (v1 : Option Nat) (t : cS) : Option (Int32 × cS) :=
  gd (cK t v0 = 3) (
  letv (cI t 24 v0) (fun x1 =>
  gd (cK t v0 = 3) (
  letv (cI t 21 v0) (fun x2 =>
  if x1 = x2 then
    (some ((nI 0), t))
  else
    letv (sN t 7 0 3) (fun s3 =>
    ob (fX8_init (cn t) (some v0) v1 s3) (fun r4 s5 =>
    gd (cK s5 v0 = 3) (
    ob (fX2_links v0 (some (cn t)) s5) (fun r6 s7 =>
    (some ((nI 1), s7))
    )
    )
    )
    )
  )
  )
  )
  )
theorem mfX2_puts (v0 : Nat) (v1 : Option Nat) (t : cS) : MO t (fX2_puts v0 v1 t) := by
  unfold fX2_puts
  refine mo_gd ?_
  refine mo_letv (fun _ => ?_)
  refine mo_gd ?_
  refine mo_letv (fun _ => ?_)
  refine mo_ite ?_ ?_
  · exact mo_some
  · refine mo_letS cMo_sN (fun _ => ?_)
    refine mo_ob (by apply mfX8_init) (fun _ _ => ?_)
    refine mo_gd ?_
    refine mo_ob (by apply mfX2_links) (fun _ _ => ?_)
    exact mo_some
set_option maxHeartbeats 4000000 in
theorem wX2_puts (l : Launch) (Y : cY) (hl : l.stackTraces = false) (hY : ∀ q, q < Y.2.2.2.2.size → ¬ Y.2.2.2.1 q) (v0 : Nat) (v1 : Option Nat) (t : cS) : cFn l Y yX2_puts (ws_ yX2_puts cX2_puts 2 (some .boolean)) 2 [.ref v0, vr v1] t (fX2_puts v0 v1 t) rI := by
  refine cmet (av := [.ref v0, vr v1]) (mfX2_puts v0 v1 t) hl hY (by decide +kernel) (lg_le (List.forall_mem_cons.mpr ⟨rfl, List.forall_mem_cons.mpr ⟨(cat_vr _), fun _ h => absurd h List.not_mem_nil⟩⟩) (Nat.le_of_ble_eq_true rfl)) (lv_args_cat (List.forall_mem_cons.mpr ⟨rfl, List.forall_mem_cons.mpr ⟨(cat_vr _), fun _ h => absurd h List.not_mem_nil⟩⟩)) ?_
  intro X ad0 hln hC hnL hrt hnm hT hmd
  subst hln
  have hG := hC.1
  rw [lv_args_s (List.forall_mem_cons.mpr ⟨rfl, List.forall_mem_cons.mpr ⟨(cat_vr _), fun _ h => absurd h List.not_mem_nil⟩⟩)]
  show GC X Y (cM Y X 2 t ad0 rI) _ t 0 [(0, .ref v0), (1, vr v1)] []
  unfold fX2_puts
  refine gc_aload_n hG (v := .ref v0) (refV_a _) dX2_puts_0 rfl rfl ?_
  refine gc_gd (fun hk => ?_)
  refine gc_get hC (ci := 2) (j := 3) (v := .int (cI t 24 v0)) hk dX2_puts_1 rfl (by decide) in_X2 q134 (fun _ h => h) rfl ?_
  refine gc_letv (fun x1 h_ => ?_)
  refine gc_aload_n hG (v := .ref v0) (refV_a _) dX2_puts_4 rfl rfl ?_
  refine gc_gd (fun hk => ?_)
  refine gc_get hC (ci := 2) (j := 0) (v := .int (cI t 21 v0)) hk dX2_puts_5 rfl (by decide) in_X2 q129 (fun _ h => h) rfl ?_
  refine gc_letv (fun x2 h_ => ?_)
  refine gc_icmp_ne hG (tgt := 13) dX2_puts_8 (by decide) ?_ ?_
  · refine gc_iconst hG (nI 0) dX2_puts_11 (by decide) ?_
    exact gc_iret hC hrt (by decide) rfl dX2_puts_12
  · refine gc_aload_n hG (v := .ref v0) (refV_a _) dX2_puts_13 rfl rfl ?_
    refine gc_new hC (ci := 6) tyX8 tyX8_ok rfl in_X8 dX2_puts_14 q398 q399 q82 (by decide +kernel) ?_
    refine gc_letS (fun s3 => ?_)
    refine gc_dup hG dX2_puts_17 rfl ?_
    refine gc_aload_n hG (v := .ref v0) (refV_a _) dX2_puts_18 rfl rfl ?_
    refine gc_aload_n hG (v := vr v1) (refV_x _) dX2_puts_19 rfl rfl ?_
    refine gc_callI (f := fX8_init (cn t) (some v0) v1 s3) (As := [.ref v0, vr v1]) (rest := [.ref (cn t), .ref v0]) (n := 2) (d' := 1) (b := (cn t)) hC hnL (wX8_init (gLn X) Y hl hY (cn t) (some v0) v1 s3) dX2_puts_20 q400 q401 q82 q402 ⟨by decide +kernel, by decide +kernel⟩ rfl rfl (by decide) (by decide) (Nat.le_of_ble_eq_true rfl) (kn_V (fun r4 s5 => ?_)) kx_V
    refine gc_gd (fun hk => ?_)
    refine gc_callV (f := fX2_links v0 (some (cn t)) s5) (As := [.ref (cn t)]) (rest := []) (n := 1) (d' := 1) (b := v0) hC hnL (wX2_links (gLn X) Y hl hY v0 (some (cn t)) s5) hk (ci := 2) rfl dX2_puts_23 q418 q420 qs1 q76 q421 ⟨by decide +kernel, by decide +kernel⟩ rfl (by decide) (by decide) (Nat.le_of_ble_eq_true rfl) (kn_V (fun r6 s7 => ?_)) kx_V
    refine gc_iconst hG (nI 1) dX2_puts_26 (by decide) ?_
    exact gc_iret hC hrt (by decide) rfl dX2_puts_27
def fX1_sends (v0 : Nat) (v1 : Option Nat) (v2 : Option Nat) (t : cS) : Option (Int32 × cS) :=
  rv v1 (fun a1 =>
  gd (cK t a1 = 5) (
  letv (cI t 33 a1) (fun x2 =>
  jn (fun  (t3 : cS) =>
    gd (cK t3 v0 = 2) (
    letv (cI t3 11 v0) (fun x5 =>
    gd (cK t3 v0 = 2) (
    letv (sI t3 11 v0 (x5 + (nI 1))) (fun s6 =>
    (some ((nI 0), s6))
    )
    )
    )
    )
    ) (fun (j4 : cS → Option (Int32 × cS)) =>
    if x2 = 0 then
      j4 t
    else
      gd (cK t a1 = 5) (
      letv (cR t 37 a1) (fun x7 =>
      rv x7 (fun a8 =>
      gd (cK t a8 = 3) (
      ob (fX2_puts a8 v2 t) (fun r9 s10 =>
      if r9 = 0 then
        j4 s10
      else
        (some ((nI 1), s10))
      )
      )
      )
      )
      )
    )
  )
  )
  )
theorem mfX1_sends (v0 : Nat) (v1 : Option Nat) (v2 : Option Nat) (t : cS) : MO t (fX1_sends v0 v1 v2 t) := by
  unfold fX1_sends
  refine mo_rv (fun _ => ?_)
  refine mo_gd ?_
  refine mo_letv (fun _ => ?_)
  refine mo_jn (fun j_ => ∀ ( t3 : cS ), MO t3 (j_ t3)) (fun t3 => ?_) (fun j4 hj4 => ?_)
  · refine mo_gd ?_
    refine mo_letv (fun _ => ?_)
    refine mo_gd ?_
    refine mo_letS cMo_sI (fun _ => ?_)
    exact mo_some
  · refine mo_ite ?_ ?_
    · exact hj4 _
    · refine mo_gd ?_
      refine mo_letv (fun _ => ?_)
      refine mo_rv (fun _ => ?_)
      refine mo_gd ?_
      refine mo_ob (by apply mfX2_puts) (fun _ _ => ?_)
      refine mo_ite ?_ ?_
      · exact hj4 _
      · exact mo_some
set_option maxHeartbeats 4000000 in
theorem wX1_sends (l : Launch) (Y : cY) (hl : l.stackTraces = false) (hY : ∀ q, q < Y.2.2.2.2.size → ¬ Y.2.2.2.1 q) (v0 : Nat) (v1 : Option Nat) (v2 : Option Nat) (t : cS) : cFn l Y yX1_sends (ws_ yX1_sends cX1_sends 3 (some .boolean)) 3 [.ref v0, vr v1, vr v2] t (fX1_sends v0 v1 v2 t) rI := by
  refine cmet (av := [.ref v0, vr v1, vr v2]) (mfX1_sends v0 v1 v2 t) hl hY (by decide +kernel) (lg_le (List.forall_mem_cons.mpr ⟨rfl, List.forall_mem_cons.mpr ⟨(cat_vr _), List.forall_mem_cons.mpr ⟨(cat_vr _), fun _ h => absurd h List.not_mem_nil⟩⟩⟩) (Nat.le_of_ble_eq_true rfl)) (lv_args_cat (List.forall_mem_cons.mpr ⟨rfl, List.forall_mem_cons.mpr ⟨(cat_vr _), List.forall_mem_cons.mpr ⟨(cat_vr _), fun _ h => absurd h List.not_mem_nil⟩⟩⟩)) ?_
  intro X ad0 hln hC hnL hrt hnm hT hmd
  subst hln
  have hG := hC.1
  rw [lv_args_s (List.forall_mem_cons.mpr ⟨rfl, List.forall_mem_cons.mpr ⟨(cat_vr _), List.forall_mem_cons.mpr ⟨(cat_vr _), fun _ h => absurd h List.not_mem_nil⟩⟩⟩)]
  show GC X Y (cM Y X 3 t ad0 rI) _ t 0 [(0, .ref v0), (1, vr v1), (2, vr v2)] []
  unfold fX1_sends
  refine gc_aload_n hG (v := vr v1) (refV_x _) dX1_sends_0 rfl rfl ?_
  refine gc_rv (fun a1 h_ => ?_)
  subst h_
  refine gc_gd (fun hk => ?_)
  refine gc_getN hC (ci := 4) (j := 7) (v := .int (cI t 33 a1)) hk dX1_sends_1 rfl (by decide) in_X5 q300 (fun _ h => h) rfl ?_
  refine gc_letv (fun x2 h_ => ?_)
  refine gc_jn (fun j_ => ∀  (t3 : cS), GC X Y (cM Y X 3 t ad0 rI) (j_ t3) t3 20 [(0, .ref v0)] []) (fun t3 => ?_) (fun j4 hj4 => ?_)
  · refine gc_aload_n hG (v := .ref v0) (refV_a _) dX1_sends_20 rfl rfl ?_
    refine gc_dup hG dX1_sends_21 rfl ?_
    refine gc_gd (fun hk => ?_)
    refine gc_get hC (ci := 1) (j := 5) (v := .int (cI t3 11 v0)) hk dX1_sends_22 rfl (by decide) in_X1 q172 (fun _ h => h) rfl ?_
    refine gc_letv (fun x5 h_ => ?_)
    refine gc_iconst hG (nI 1) dX1_sends_25 (by decide) ?_
    refine gc_iadd hG dX1_sends_26 ?_
    refine gc_gd (fun hk => ?_)
    have pt := pt_I (s := t3) (f := 11) (a := v0) (x := (x5 + (nI 1))) rfl
    refine gc_put hC tyX1 tyX1_ok nmX1 hk dX1_sends_27 (ci := 1) (j := 5) (Or.inl (by decide)) rfl (by decide) in_X1 q172 (fun _ h => h) rfl (tyX1_ok 5 (by decide)) (fun _ => rfl) (fun _ => rfl) pt.1.1 pt.1.2.1 pt.1.2.2.1 pt.1.2.2.2 pt.2.1 pt.2.2.1 pt.2.2.2 ?_
    refine gc_letS (fun s6 => ?_)
    refine gc_iconst hG (nI 0) dX1_sends_30 (by decide) ?_
    exact gc_iret hC hrt (by decide) rfl dX1_sends_31
  · refine gc_if_eq hG (tgt := 20) dX1_sends_4 (by decide) ?_ ?_
    · refine gc_sub [0] rfl ?_
      exact hj4 t
    · refine gc_aload_n hG (v := .ref a1) (refV_a _) dX1_sends_7 rfl rfl ?_
      refine gc_gd (fun hk => ?_)
      refine gc_getN hC (ci := 4) (j := 11) (v := vr (cR t 37 a1)) hk dX1_sends_8 rfl (by decide) in_X5 q313 (fun _ h => h) rfl ?_
      refine gc_letr (fun x7 h_ => ?_)
      refine gc_aload_n hG (v := vr v2) (refV_x _) dX1_sends_11 rfl rfl ?_
      refine gc_rv (fun a8 h_ => ?_)
      subst h_
      refine gc_gd (fun hk => ?_)
      refine gc_callV (f := fX2_puts a8 v2 t) (As := [vr v2]) (rest := []) (n := 1) (d' := 2) (b := a8) hC hnL (wX2_puts (gLn X) Y hl hY a8 v2 t) hk (ci := 2) rfl dX1_sends_12 q394 q395 q396 q76 q397 ⟨by decide +kernel, by decide +kernel⟩ rfl (by decide) (by decide) (Nat.le_of_ble_eq_true rfl) (kn_I (fun r9 s10 => ?_)) kx_I
      refine gc_if_eq hG (tgt := 20) dX1_sends_15 (by decide) ?_ ?_
      · refine gc_sub [0] rfl ?_
        exact hj4 s10
      · refine gc_iconst hG (nI 1) dX1_sends_18 (by decide) ?_
        exact gc_iret hC hrt (by decide) rfl dX1_sends_19
def fX6_init (v0 : Nat) (v1 : Int32) (t : cS) : Option (Unit × cS) :=
  gd (cK t v0 = 6 ∨ cK t v0 = 9) (
  letv (sI t 43 v0 v1) (fun s1 =>
  (some ((), s1))
  )
  )
theorem mfX6_init (v0 : Nat) (v1 : Int32) (t : cS) : MO t (fX6_init v0 v1 t) := by
  unfold fX6_init
  refine mo_gd ?_
  refine mo_letS cMo_sI (fun _ => ?_)
  exact mo_some
set_option maxHeartbeats 4000000 in
theorem wX6_init (l : Launch) (Y : cY) (hl : l.stackTraces = false) (hY : ∀ q, q < Y.2.2.2.2.size → ¬ Y.2.2.2.1 q) (v0 : Nat) (v1 : Int32) (t : cS) : cFn l Y yX6_init (ws_ yX6_init cX6_init 2 none) 1 [.ref v0, .int v1] t (fX6_init v0 v1 t) rV := by
  refine cmet (av := [.ref v0, .int v1]) (mfX6_init v0 v1 t) hl hY (by decide +kernel) (lg_le (List.forall_mem_cons.mpr ⟨rfl, List.forall_mem_cons.mpr ⟨rfl, fun _ h => absurd h List.not_mem_nil⟩⟩) (Nat.le_of_ble_eq_true rfl)) (lv_args_cat (List.forall_mem_cons.mpr ⟨rfl, List.forall_mem_cons.mpr ⟨rfl, fun _ h => absurd h List.not_mem_nil⟩⟩)) ?_
  intro X ad0 hln hC hnL hrt hnm hT hmd
  subst hln
  have hG := hC.1
  rw [lv_args_s (List.forall_mem_cons.mpr ⟨rfl, List.forall_mem_cons.mpr ⟨rfl, fun _ h => absurd h List.not_mem_nil⟩⟩)]
  show GC X Y (cM Y X 2 t ad0 rV) _ t 0 [(0, .ref v0), (1, .int v1)] []
  unfold fX6_init
  refine gc_aload_n hG (v := .ref v0) (refV_a _) dX6_init_0 rfl rfl ?_
  refine gc_objInit hC hnL q379 q113 q114 dX6_init_1 (Nat.le_of_ble_eq_true rfl) ?_
  refine gc_aload_n hG (v := .ref v0) (refV_a _) dX6_init_4 rfl rfl ?_
  refine gc_iload_n hG dX6_init_5 rfl rfl ?_
  refine gc_gd (fun hk => ?_)
  have pt := pt_I (s := t) (f := 43) (a := v0) (x := v1) rfl
  refine gc_or2 hk (fun hk h_ => gc_putF hC tyX7 tyX7_ok nmX7 hk dX6_init_6 (ci := 5) (j := 0) (Or.inl (by decide)) rfl (by decide) in_X7 q382 (fun _ h => h) rfl (by rw [hnm]; rfl) rfl (tyX7_ok 0 (by decide)) (fun _ => rfl) (fun _ => rfl) pt.1.1 pt.1.2.1 pt.1.2.2.1 pt.1.2.2.2 pt.2.1 pt.2.2.1 pt.2.2.2 h_) (fun hk h_ => gc_putF hC tyX10 tyX10_ok nmX10 hk dX6_init_6 (ci := 8) (j := 0) (Or.inl (by decide)) rfl (by decide) in_X10 q382 (fun _ h => h) rfl (by rw [hnm]; rfl) rfl (tyX10_ok 0 (by decide)) (fun _ => rfl) (fun _ => rfl) pt.1.1 pt.1.2.1 pt.1.2.2.1 pt.1.2.2.2 pt.2.1 pt.2.2.1 pt.2.2.2 h_) ?_
  refine gc_letS (fun s1 => ?_)
  exact gc_vret hC hrt rfl dX6_init_9
def fX7_init (v0 : Nat) (v1 : Int32) (v2 : Int32) (t : cS) : Option (Unit × cS) :=
  ob (fX6_init v0 v1 t) (fun r1 s2 =>
  gd (cK s2 v0 = 6) (
  letv (sI s2 44 v0 v2) (fun s3 =>
  (some ((), s3))
  )
  )
  )
theorem mfX7_init (v0 : Nat) (v1 : Int32) (v2 : Int32) (t : cS) : MO t (fX7_init v0 v1 v2 t) := by
  unfold fX7_init
  refine mo_ob (by apply mfX6_init) (fun _ _ => ?_)
  refine mo_gd ?_
  refine mo_letS cMo_sI (fun _ => ?_)
  exact mo_some
set_option maxHeartbeats 4000000 in
theorem wX7_init (l : Launch) (Y : cY) (hl : l.stackTraces = false) (hY : ∀ q, q < Y.2.2.2.2.size → ¬ Y.2.2.2.1 q) (v0 : Nat) (v1 : Int32) (v2 : Int32) (t : cS) : cFn l Y yX7_init (ws_ yX7_init cX7_init 3 none) 2 [.ref v0, .int v1, .int v2] t (fX7_init v0 v1 v2 t) rV := by
  refine cmet (av := [.ref v0, .int v1, .int v2]) (mfX7_init v0 v1 v2 t) hl hY (by decide +kernel) (lg_le (List.forall_mem_cons.mpr ⟨rfl, List.forall_mem_cons.mpr ⟨rfl, List.forall_mem_cons.mpr ⟨rfl, fun _ h => absurd h List.not_mem_nil⟩⟩⟩) (Nat.le_of_ble_eq_true rfl)) (lv_args_cat (List.forall_mem_cons.mpr ⟨rfl, List.forall_mem_cons.mpr ⟨rfl, List.forall_mem_cons.mpr ⟨rfl, fun _ h => absurd h List.not_mem_nil⟩⟩⟩)) ?_
  intro X ad0 hln hC hnL hrt hnm hT hmd
  subst hln
  have hG := hC.1
  rw [lv_args_s (List.forall_mem_cons.mpr ⟨rfl, List.forall_mem_cons.mpr ⟨rfl, List.forall_mem_cons.mpr ⟨rfl, fun _ h => absurd h List.not_mem_nil⟩⟩⟩)]
  show GC X Y (cM Y X 3 t ad0 rV) _ t 0 [(0, .ref v0), (1, .int v1), (2, .int v2)] []
  unfold fX7_init
  refine gc_aload_n hG (v := .ref v0) (refV_a _) dX7_init_0 rfl rfl ?_
  refine gc_iload_n hG dX7_init_1 rfl rfl ?_
  refine gc_callI (f := fX6_init v0 v1 t) (As := [.int v1]) (rest := []) (n := 1) (d' := 1) (b := v0) hC hnL (wX6_init (gLn X) Y hl hY v0 v1 t) dX7_init_2 q376 q377 q80 q378 ⟨by decide +kernel, by decide +kernel⟩ rfl rfl (by decide) (by decide) (Nat.le_of_ble_eq_true rfl) (kn_V (fun r1 s2 => ?_)) kx_V
  refine gc_aload_n hG (v := .ref v0) (refV_a _) dX7_init_5 rfl rfl ?_
  refine gc_iload_n hG dX7_init_6 rfl rfl ?_
  refine gc_gd (fun hk => ?_)
  have pt := pt_I (s := s2) (f := 44) (a := v0) (x := v2) rfl
  refine gc_putF hC tyX7 tyX7_ok nmX7 hk dX7_init_7 (ci := 5) (j := 1) (Or.inl (by decide)) rfl (by decide) in_X7 q380 (fun _ h => h) rfl (by rw [hnm]; rfl) rfl (tyX7_ok 1 (by decide)) (fun _ => rfl) (fun _ => rfl) pt.1.1 pt.1.2.1 pt.1.2.2.1 pt.1.2.2.2 pt.2.1 pt.2.2.1 pt.2.2.2 ?_
  refine gc_letS (fun s3 => ?_)
  exact gc_vret hC hrt rfl dX7_init_10
def fX0_tell (v0 : Nat) (v1 : Int32) (v2 : Int32) (v3 : Int32) (t : cS) : Option (Int32 × cS) :=
  gd (cK t v0 = 1) (
  ob (fX0_isActor v0 v1 t) (fun r1 s2 =>
  if r1 = 0 then
    (some ((-1 : Int32), s2))
  else
    jn (fun  (t3 : cS) =>
      ob (fX0_within v3 (-99 : Int32) (nI 99) t3) (fun r5 s6 =>
      if r5 = 0 then
        (some ((-1 : Int32), s6))
      else
        gd (cK s6 v0 = 1) (
        letv (cR s6 1 v0) (fun x7 =>
        rv x7 (fun a8 =>
        gd (cK s6 a8 = 2) (
        letv (cR s6 6 a8) (fun x9 =>
        rv x9 (fun a10 =>
        gd (cK s6 a10 = 23 ∧ cIn s6 a10 v1) (
        letv (cR s6 (er (v1).toNatClampNeg) a10) (fun x11 =>
        gd (cK s6 v0 = 1) (
        letv (cR s6 1 v0) (fun x12 =>
        letv (sN s6 6 0 2) (fun s13 =>
        ob (fX7_init (cn s6) v2 v3 s13) (fun r14 s15 =>
        rv x12 (fun a16 =>
        gd (cK s15 a16 = 2) (
        ob (fX1_sends a16 x11 (some (cn s6)) s15) (fun r17 s18 =>
        if r17 = 0 then
          (some ((-5 : Int32), s18))
        else
          rv x11 (fun a19 =>
          gd (cK s18 a19 = 5) (
          letv (cR s18 37 a19) (fun x20 =>
          rv x20 (fun a21 =>
          gd (cK s18 a21 = 3) (
          letv (cI s18 24 a21) (fun x22 =>
          (some (x22, s18))
          )
          )
          )
          )
          )
          )
        )
        )
        )
        )
        )
        )
        )
        )
        )
        )
        )
        )
        )
        )
        )
      )
      ) (fun (j4 : cS → Option (Int32 × cS)) =>
      if v2 = (-1 : Int32) then
        j4 s2
      else
        gd (cK s2 v0 = 1) (
        ob (fX0_isActor v0 v2 s2) (fun r23 s24 =>
        if r23 = 0 then
          (some ((-1 : Int32), s24))
        else
          j4 s24
        )
        )
      )
  )
  )
theorem mfX0_tell (v0 : Nat) (v1 : Int32) (v2 : Int32) (v3 : Int32) (t : cS) : MO t (fX0_tell v0 v1 v2 v3 t) := by
  unfold fX0_tell
  refine mo_gd ?_
  refine mo_ob (by apply mfX0_isActor) (fun _ _ => ?_)
  refine mo_ite ?_ ?_
  · exact mo_some
  · refine mo_jn (fun j_ => ∀ ( t3 : cS ), MO t3 (j_ t3)) (fun t3 => ?_) (fun j4 hj4 => ?_)
    · refine mo_ob (by apply mfX0_within) (fun _ _ => ?_)
      refine mo_ite ?_ ?_
      · exact mo_some
      · refine mo_gd ?_
        refine mo_letv (fun _ => ?_)
        refine mo_rv (fun _ => ?_)
        refine mo_gd ?_
        refine mo_letv (fun _ => ?_)
        refine mo_rv (fun _ => ?_)
        refine mo_gd ?_
        refine mo_letv (fun _ => ?_)
        refine mo_gd ?_
        refine mo_letv (fun _ => ?_)
        refine mo_letS cMo_sN (fun _ => ?_)
        refine mo_ob (by apply mfX7_init) (fun _ _ => ?_)
        refine mo_rv (fun _ => ?_)
        refine mo_gd ?_
        refine mo_ob (by apply mfX1_sends) (fun _ _ => ?_)
        refine mo_ite ?_ ?_
        · exact mo_some
        · refine mo_rv (fun _ => ?_)
          refine mo_gd ?_
          refine mo_letv (fun _ => ?_)
          refine mo_rv (fun _ => ?_)
          refine mo_gd ?_
          refine mo_letv (fun _ => ?_)
          exact mo_some
    · refine mo_ite ?_ ?_
      · exact hj4 _
      · refine mo_gd ?_
        refine mo_ob (by apply mfX0_isActor) (fun _ _ => ?_)
        refine mo_ite ?_ ?_
        · exact mo_some
        · exact hj4 _
set_option maxHeartbeats 4000000 in
theorem wX0_tell (l : Launch) (Y : cY) (hl : l.stackTraces = false) (hY : ∀ q, q < Y.2.2.2.2.size → ¬ Y.2.2.2.1 q) (v0 : Nat) (v1 : Int32) (v2 : Int32) (v3 : Int32) (t : cS) : cFn l Y yX0_tell (ws_ yX0_tell cX0_tell 5 (some .int)) 4 [.ref v0, .int v1, .int v2, .int v3] t (fX0_tell v0 v1 v2 v3 t) rI := by
  refine cmet (av := [.ref v0, .int v1, .int v2, .int v3]) (mfX0_tell v0 v1 v2 v3 t) hl hY (by decide +kernel) (lg_le (List.forall_mem_cons.mpr ⟨rfl, List.forall_mem_cons.mpr ⟨rfl, List.forall_mem_cons.mpr ⟨rfl, List.forall_mem_cons.mpr ⟨rfl, fun _ h => absurd h List.not_mem_nil⟩⟩⟩⟩) (Nat.le_of_ble_eq_true rfl)) (lv_args_cat (List.forall_mem_cons.mpr ⟨rfl, List.forall_mem_cons.mpr ⟨rfl, List.forall_mem_cons.mpr ⟨rfl, List.forall_mem_cons.mpr ⟨rfl, fun _ h => absurd h List.not_mem_nil⟩⟩⟩⟩)) ?_
  intro X ad0 hln hC hnL hrt hnm hT hmd
  subst hln
  have hG := hC.1
  rw [lv_args_s (List.forall_mem_cons.mpr ⟨rfl, List.forall_mem_cons.mpr ⟨rfl, List.forall_mem_cons.mpr ⟨rfl, List.forall_mem_cons.mpr ⟨rfl, fun _ h => absurd h List.not_mem_nil⟩⟩⟩⟩)]
  show GC X Y (cM Y X 5 t ad0 rI) _ t 0 [(0, .ref v0), (1, .int v1), (2, .int v2), (3, .int v3)] []
  unfold fX0_tell
  refine gc_aload_n hG (v := .ref v0) (refV_a _) dX0_tell_0 rfl rfl ?_
  refine gc_iload_n hG dX0_tell_1 rfl rfl ?_
  refine gc_gd (fun hk => ?_)
  refine gc_callV (f := fX0_isActor v0 v1 t) (As := [.int v1]) (rest := []) (n := 1) (d' := 1) (b := v0) hC hnL (wX0_isActor (gLn X) Y hl hY v0 v1 t) hk (ci := 0) rfl dX0_tell_2 q366 q368 qs0 q74 q369 ⟨by decide +kernel, by decide +kernel⟩ rfl (by decide) (by decide) (Nat.le_of_ble_eq_true rfl) (kn_I (fun r1 s2 => ?_)) kx_I
  refine gc_if_eq hG (tgt := 32) dX0_tell_5 (by decide) ?_ ?_
  · refine gc_iconst hG (-1 : Int32) dX0_tell_32 (by decide) ?_
    exact gc_iret hC hrt rfl rfl dX0_tell_33
  · refine gc_iload_n hG dX0_tell_8 rfl rfl ?_
    refine gc_iconst hG (-1 : Int32) dX0_tell_9 (by decide) ?_
    refine gc_jn (fun j_ => ∀  (t3 : cS), GC X Y (cM Y X 5 t ad0 rI) (j_ t3) t3 21 [(0, .ref v0), (1, .int v1), (2, .int v2), (3, .int v3)] []) (fun t3 => ?_) (fun j4 hj4 => ?_)
    · refine gc_iload_n hG dX0_tell_21 rfl rfl ?_
      refine gc_bipush hG (-99 : Int32) dX0_tell_22 (by decide) ?_
      refine gc_bipush hG (nI 99) dX0_tell_24 (by decide) ?_
      refine gc_callS (f := fX0_within v3 (-99 : Int32) (nI 99) t3) (As := [.int v3, .int (-99 : Int32), .int (nI 99)]) (rest := []) (n := 3) (d' := 1) hC hnL (wX0_within (gLn X) Y hl hY v3 (-99 : Int32) (nI 99) t3) dX0_tell_26 q370 q250 q74 q251 ⟨by decide +kernel, by decide +kernel⟩ rfl (by decide) (by decide) (Nat.le_of_ble_eq_true rfl) (kn_I (fun r5 s6 => ?_)) kx_I
      refine gc_if_ne hG (tgt := 34) dX0_tell_29 (by decide) ?_ ?_
      · refine gc_iconst hG (-1 : Int32) dX0_tell_32 (by decide) ?_
        exact gc_iret hC hrt rfl rfl dX0_tell_33
      · refine gc_aload_n hG (v := .ref v0) (refV_a _) dX0_tell_34 rfl rfl ?_
        refine gc_gd (fun hk => ?_)
        refine gc_get hC (ci := 0) (j := 0) (v := vr (cR s6 1 v0)) hk dX0_tell_35 rfl (by decide) in_X0 q224 (fun _ h => h) rfl ?_
        refine gc_letr (fun x7 h_ => ?_)
        refine gc_rv (fun a8 h_ => ?_)
        subst h_
        refine gc_gd (fun hk => ?_)
        refine gc_getN hC (ci := 1) (j := 0) (v := vr (cR s6 6 a8)) hk dX0_tell_38 rfl (by decide) in_X1 q160 (fun _ h => h) rfl ?_
        refine gc_letr (fun x9 h_ => ?_)
        refine gc_iload_n hG dX0_tell_41 rfl rfl ?_
        refine gc_rv (fun a10 h_ => ?_)
        subst h_
        refine gc_gd (fun hk => ?_)
        refine gc_aald hC hk.1 (by decide) (by decide) (t0 := 3) rfl hk.2 dX0_tell_42 ?_
        refine gc_letr (fun x11 h_ => ?_)
        refine gc_astore hG (refV_x _) dX0_tell_43 (Nat.le_of_ble_eq_true rfl) (lv' := [(0, _), (1, _), (2, _), (3, _), (4, _)]) rfl ?_
        refine gc_aload_n hG (v := .ref v0) (refV_a _) dX0_tell_45 rfl rfl ?_
        refine gc_gd (fun hk => ?_)
        refine gc_get hC (ci := 0) (j := 0) (v := vr (cR s6 1 v0)) hk dX0_tell_46 rfl (by decide) in_X0 q224 (fun _ h => h) rfl ?_
        refine gc_letr (fun x12 h_ => ?_)
        refine gc_aload hG (v := vr x11) (refV_x _) dX0_tell_49 rfl ?_
        refine gc_new hC (ci := 5) tyX7 tyX7_ok rfl in_X7 dX0_tell_51 q371 q372 q81 (by decide +kernel) ?_
        refine gc_letS (fun s13 => ?_)
        refine gc_dup hG dX0_tell_54 rfl ?_
        refine gc_iload_n hG dX0_tell_55 rfl rfl ?_
        refine gc_iload_n hG dX0_tell_56 rfl rfl ?_
        refine gc_callI (f := fX7_init (cn s6) v2 v3 s13) (As := [.int v2, .int v3]) (rest := [.ref (cn s6), vr x11, vr x12]) (n := 2) (d' := 2) (b := (cn s6)) hC hnL (wX7_init (gLn X) Y hl hY (cn s6) v2 v3 s13) dX0_tell_57 q373 q374 q81 q375 ⟨by decide +kernel, by decide +kernel⟩ rfl rfl (by decide) (by decide) (by simp [cat_vr, cat_r, cat_i, cat_n]) (kn_V (fun r14 s15 => ?_)) kx_V
        refine gc_rv (fun a16 h_ => ?_)
        subst h_
        refine gc_gd (fun hk => ?_)
        refine gc_callV (f := fX1_sends a16 x11 (some (cn s6)) s15) (As := [vr x11, .ref (cn s6)]) (rest := []) (n := 2) (d' := 3) (b := a16) hC hnL (wX1_sends (gLn X) Y hl hY a16 x11 (some (cn s6)) s15) hk (ci := 1) rfl dX0_tell_60 q390 q391 q392 q75 q393 ⟨by decide +kernel, by decide +kernel⟩ rfl (by decide) (by decide) (Nat.le_of_ble_eq_true rfl) (kn_I (fun r17 s18 => ?_)) kx_I
        refine gc_if_eq hG (tgt := 77) dX0_tell_63 (by decide) ?_ ?_
        · refine gc_bipush hG (-5 : Int32) dX0_tell_77 (by decide) ?_
          exact gc_iret hC hrt rfl rfl dX0_tell_79
        · refine gc_aload hG (v := vr x11) (refV_x _) dX0_tell_66 rfl ?_
          refine gc_rv (fun a19 h_ => ?_)
          subst h_
          refine gc_gd (fun hk => ?_)
          refine gc_getN hC (ci := 4) (j := 11) (v := vr (cR s18 37 a19)) hk dX0_tell_68 rfl (by decide) in_X5 q314 (fun _ h => h) rfl ?_
          refine gc_letr (fun x20 h_ => ?_)
          refine gc_rv (fun a21 h_ => ?_)
          subst h_
          refine gc_gd (fun hk => ?_)
          refine gc_getN hC (ci := 2) (j := 3) (v := .int (cI s18 24 a21)) hk dX0_tell_71 rfl (by decide) in_X2 q137 (fun _ h => h) rfl ?_
          refine gc_letv (fun x22 h_ => ?_)
          refine gc_goto hG (tgt := 79) dX0_tell_74 (by decide) ?_
          exact gc_iret hC hrt rfl rfl dX0_tell_79
    · refine gc_icmp_eq hG (tgt := 21) dX0_tell_10 (by decide) ?_ ?_
      · exact hj4 s2
      · refine gc_aload_n hG (v := .ref v0) (refV_a _) dX0_tell_13 rfl rfl ?_
        refine gc_iload_n hG dX0_tell_14 rfl rfl ?_
        refine gc_gd (fun hk => ?_)
        refine gc_callV (f := fX0_isActor v0 v2 s2) (As := [.int v2]) (rest := []) (n := 1) (d' := 1) (b := v0) hC hnL (wX0_isActor (gLn X) Y hl hY v0 v2 s2) hk (ci := 0) rfl dX0_tell_15 q366 q368 qs0 q74 q369 ⟨by decide +kernel, by decide +kernel⟩ rfl (by decide) (by decide) (Nat.le_of_ble_eq_true rfl) (kn_I (fun r23 s24 => ?_)) kx_I
        refine gc_if_eq hG (tgt := 32) dX0_tell_18 (by decide) ?_ ?_
        · refine gc_iconst hG (-1 : Int32) dX0_tell_32 (by decide) ?_
          exact gc_iret hC hrt rfl rfl dX0_tell_33
        · exact hj4 s24
