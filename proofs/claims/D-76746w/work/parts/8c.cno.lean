/-! THE COMPONENT: failures noted; failures made -/
theorem drop_filter {lim : Int32} : ∀ (xs : List (Int32 × Int32)), xs.Pairwise (fun p q => p.1.toInt ≤ q.1.toInt) → xs.dropWhile (fun q => decide (q.1 < lim)) = xs.filter (fun q => decide (¬ q.1 < lim))
  | [], _ => rfl
  | x :: l, h => by
    obtain ⟨h1, h2⟩ := List.pairwise_cons.mp h
    by_cases c : x.1 < lim
    · rw [List.dropWhile_cons_of_pos (by simpa using c), List.filter_cons_of_neg (by simpa using c)]
      exact drop_filter l h2
    · rw [List.dropWhile_cons_of_neg (by simpa using c)]
      refine (List.filter_eq_self.mpr (fun q hq => ?_)).symm
      refine decide_eq_true (fun z => c ?_)
      rcases List.mem_cons.mp hq with e | e
      · rw [← e]; exact z
      · have := h1 q e
        have z := i_lt.mp z
        exact i_lt.mpr (by omega)
section CNO
variable {P : Nat → Prop} {t t' : cS} {w i j x p : Nat} {A : Nat → Nat} {W : aW}
theorem cw_notesL {lim tm0 : Int32} {kx : cS → Option (Unit × cS)} {Q : Unit → cS → Prop} : ∀ (R : List (Int32 × Int32)) (W : aW) (fuel : Nat) (t : cS), R.length < fuel → R.length < 2 ^ 30 → CW P t w A W → p < aN W → aL W p 4 = R → tm0 - aF W p 4 = lim →
    (∀ t', Po P w A t t' W (uL W p 4 (R.dropWhile (fun q => decide (q.1 < lim)))) 0 0 → Ok (kx t') Q) → Ok (fX5_notes_L0 (A p) tm0 kx fuel t) Q := by
  intro R
  induction R with
  | nil =>
    intro W fuel t hf hl2 h hp hR hlim k
    obtain ⟨fuel, rfl⟩ : ∃ n, fuel = n + 1 := ⟨fuel - 1, by omega⟩
    have fa := h.fa hp
    have e24 : cI t 24 (A p + 5) = nI 0 := by rw [(h.que hp (k := 4) (by omega)).len, hR]; rfl
    rw [fX5_notes_L0]
    simp only [gd_tr, letv_e, rv_e, onul_n, onul_s, ob_e, sI_I, sI_K, sI_L, sI_R, sI_n, sI_z, sR_R, sR_K, sR_L, sR_I, sR_n, sR_z, sN_n, sN_z, true_and, and_true, if_true, and_self, fa, e24]
    refine ok_iff (by decide) ?_
    have := k t (by
      have z := Po.rf h
      have e : uL W p 4 [] = W := by rw [← hR]; exact uL_self _ _ _
      show Po P w A t t W (uL W p 4 []) 0 0
      rw [e]
      exact z)
    exact this
  | cons q R ih =>
    intro W fuel t hf hl2 h hp hR hlim k
    rw [List.length_cons] at hf hl2
    obtain ⟨fuel, rfl⟩ : ∃ n, fuel = n + 1 := ⟨fuel - 1, by omega⟩
    have fa := h.fa hp
    have hq0 := h.que hp (k := 4) (by omega)
    have e24 : cI t 24 (A p + 5) = nI (R.length + 1) := by rw [hq0.len, hR]; rfl
    obtain ⟨cs, q1, q2⟩ := hq0
    rw [hR] at q2
    rw [fX5_notes_L0]
    cases cs with
    | nil => exact q2.elim
    | cons d cs =>
      obtain ⟨qd, qr⟩ := q2
      have qd : Vi t d.2 q := qd
      have lcs : cs.length = R.length := by rw [← List.length_map Prod.snd]; exact qr.len
      have e22 : cR t 22 (A p + 5) = some d.1 := q1.2.1
      obtain ⟨d1, d2, d3, d4⟩ := q1.2.2.2.1.cell d List.mem_cons_self
      have eint : fJ5_intValue d.2 t = some (q.1, t) := by
        unfold fJ5_intValue
        simp only [gd_tr, letv_e, rv_e, onul_n, onul_s, ob_e, sI_I, sI_K, sI_L, sI_R, sI_n, sI_z, sR_R, sR_K, sR_L, sR_I, sR_n, sR_z, sN_n, sN_z, true_and, and_true, if_true, and_self, qd.1, qd.2]
      simp only [gd_tr, letv_e, rv_e, onul_n, onul_s, ob_e, sI_I, sI_K, sI_L, sI_R, sI_n, sI_z, sR_R, sR_K, sR_L, sR_I, sR_n, sR_z, sN_n, sN_z, true_and, and_true, if_true, and_self, fa, e24, e22, d1, d3, qd.1, eint]
      refine ok_ift ((nI_lt0 (by omega)).mpr (by omega)) ?_
      by_cases c : q.1 < tm0 - aF W p 4
      · refine ok_ift c ?_
        refine ok_ob (qr_takes q1 h.wf (by omega)) (fun r t1 z => ?_)
        obtain ⟨rfl, r1, f1, e1, e2⟩ := z
        have f1' : Fr (Qc (A p + 1 + 4) (d :: cs)) t t1 := f1.mono (fun y _ z => Or.inl z)
        have p1 : Po P w A t t1 W (uL W p 4 R) 0 0 := Po.q h hp (Or.inr rfl) q1 f1' ⟨cs, r1, qr.st (V := fun t => qV 4 t) Vi_st h.wf f1⟩ (by omega) (by omega)
        refine ih (uL W p 4 R) fuel t1 (by omega) (by omega) p1.1 hp (by rw [uL_L, if_pos ⟨rfl, rfl⟩]) hlim (fun t2 p2 => ?_)
        have e4 : uL (uL W p 4 R) p 4 (R.dropWhile (fun q => decide (q.1 < lim))) = uL W p 4 (R.dropWhile (fun q => decide (q.1 < lim))) := aW_ext rfl (fun _ _ => rfl) (fun a l => by
          rw [uL_L, uL_L, uL_L]
          by_cases c : a = p ∧ l = 4
          · rw [if_pos c, if_pos c]
          · rw [if_neg c, if_neg c, if_neg c]) (fun _ => rfl) rfl rfl rfl
        rw [e4] at p2
        refine k t2 ?_
        rw [List.dropWhile_cons_of_pos (by rw [← hlim]; simpa using c)]
        exact p1.trans p2
      · refine ok_iff c ?_
        refine k t ?_
        rw [List.dropWhile_cons_of_neg (by rw [← hlim]; simpa using c), ← hR, uL_self]
        exact Po.rf h
theorem cw_notes {tm : Nat} (h : CW P t w A W) (hI : aI W tm) (hp : p < aN W) : Ok (fX5_notes (A p) (aG W 0) t) (fun _ t' => Po P w A t t' W (aNote W p) 2 4) := by
  have g4 := (hI.act hp).2.2.2.2.2.1
  have et : aG W 0 = nI tm := hI.2.2.2.1.1
  have ht : tm < 2 ^ 30 := hI.2.2.2.1.2.1
  unfold fX5_notes
  refine cw_notesL (lim := aG W 0 - aF W p 4) (aL W p 4) W FU t (by unfold FU; omega) (by omega) h hp rfl rfl (fun t1 p1 => ?_)
  rw [drop_filter _ g4.2.2] at p1
  have p1 : Po P w A t t1 W (uL W p 4 (aKept W p)) 0 0 := p1
  have c1 := p1.1
  have hp1 : p < aN (uL W p 4 (aKept W p)) := hp
  have f1 := c1.fa hp1
  rw [et]
  obtain ⟨x, t2, v1, v2, v3, v4, v5⟩ := c_valueOf (t := t1) c1.wf c1.g ht
  simp only [gd_tr, letv_e, rv_e, onul_n, onul_s, ob_e, sI_I, sI_K, sI_L, sI_R, sI_n, sI_z, sR_R, sR_K, sR_L, sR_I, sR_n, sR_z, sN_n, sN_z, true_and, and_true, if_true, and_self, f1, v1]
  have p2 : Po P w A t1 t2 (uL W p 4 (aKept W p)) (uL W p 4 (aKept W p)) 1 1 := Po.ne c1 v2 v4 v5
  have c2 := p2.1
  have f2 := c2.fa hp1
  simp only [gd_tr, letv_e, rv_e, onul_n, onul_s, ob_e, sI_I, sI_K, sI_L, sI_R, sI_n, sI_z, sR_R, sR_K, sR_L, sR_I, sR_n, sR_z, sN_n, sN_z, true_and, and_true, if_true, and_self, f2]
  obtain ⟨cs, q1, q2⟩ := c2.que hp1 (k := 4) (by omega)
  rw [uL_L, if_pos ⟨rfl, rfl⟩] at q2
  have lq : cs.length = (aKept W p).length := by rw [← List.length_map Prod.snd]; exact q2.len
  have hk := aKept_le (w := W) (p := p)
  refine ok_ob (qr_puts (m := 2147483647) (x := x) q1 c2.wf (by omega) (by omega) (c2.up _ (Nat.le_refl _))) (fun r t3 k => ?_)
  rw [if_neg (by omega)] at k
  obtain ⟨rfl, r3, f3, e1, e2⟩ := k
  have p3 : Po P w A t2 t3 (uL W p 4 (aKept W p)) (uL (uL W p 4 (aKept W p)) p 4 (aKept W p ++ [(aG W 0, nI 0)])) 1 3 := by
    refine Po.q c2 hp1 (Or.inr rfl) q1 f3 ⟨_, r3, ?_⟩ (by omega) (by omega)
    rw [List.map_append]
    refine Al.app (l' := [x]) (m' := [(aG W 0, nI 0)]) ⟨?_, trivial⟩ (q2.st (V := fun t => qV 4 t) Vi_st c2.wf f3)
    rw [et]
    exact Vi_st _ _ _ _ _ c2.wf f3 v3
  have e4 : uL (uL W p 4 (aKept W p)) p 4 (aKept W p ++ [(aG W 0, nI 0)]) = aNote W p := aW_ext rfl (fun _ _ => rfl) (fun a l => by
    show (if a = p ∧ l = 4 then _ else if a = p ∧ l = 4 then _ else aL W a l) = if a = p ∧ l = 4 then _ else aL W a l
    by_cases c : a = p ∧ l = 4
    · rw [if_pos c, if_pos c]
    · rw [if_neg c, if_neg c, if_neg c]) (fun _ => rfl) rfl rfl rfl
  rw [e4] at p3
  exact ok_some ((p1.trans (p2.trans p3)).le (by omega) (by omega))
/-- a walk goes on -/
theorem CW.frV (h : CW P t w A W) (f : Fr (fun y => y = x) t t') (hx : cK t x = 8) : CW P t' w A W := by
  have hw := h.wf
  have h37 : cK t x ≠ 3 ∧ cK t x ≠ 7 := by rw [hx]; decide
  have eq : ∀ {y k : Nat}, cK t y = k → k ≠ 0 → k ≠ 8 → cEq t t' y := fun hk h0 h8 => f.eq (h.lt hk h0) (fun z => h8 (by rw [← hk, z]; exact hx))
  refine ⟨⟨f.1.2, h.g.st hw f, fun y hy => h.up y (Nat.le_trans f.1.1 hy)⟩, h.sp, h.w1.eq hw f (eq h.w1.1.1 (by decide) (by decide)), h.w2.eq (eq h.w2.1.1 (by decide) (by decide)), h.w3.eq (eq h.w3.1.1 (by decide) (by decide)), h.w4.st hw f, h.tm.frx Vt_st hw f h37, fun i hi => ?_⟩
  obtain ⟨a1, a2, a3, a4⟩ := h.act hi
  exact ⟨a1.eq (eq a1.1.1 (by decide) (by decide)), a2.eq (eq a2.1.1 (by decide) (by decide)), a3.st hw f, a4.frx hw f h37⟩
/-- those that count yet -/
theorem cw_failL {lim tm0 : Int32} {P' : Nat → Prop} {q v : Nat} (hp : p < aN W) (hlim : tm0 - aF W p 4 = lim) : ∀ (R : List (Nat × Nat)) (xs : List (Int32 × Int32)) (n fuel : Nat) (ptr : Option Nat) (t : cS), R.length < fuel → CW P t w A W → cK t v = 8 → cR t 48 v = ptr → Ch P' t q R ptr → Al (Vi t) (R.map Prod.snd) xs →
    Ok (fX5_failures_L10 (A p) tm0 (some v) (fun v t => some (v, t)) fuel (nI n) t) (fun r t' => r = nI (n + (xs.filter (fun q => decide (¬ q.1 < lim))).length) ∧ Fr (fun y => y = v) t t' ∧ cn t' = cn t ∧ cz t' = cz t) := by
  intro R
  induction R with
  | nil =>
    intro xs n fuel ptr t hf h hv h48 hC hA
    obtain ⟨fuel, rfl⟩ : ∃ n, fuel = n + 1 := ⟨fuel - 1, by omega⟩
    have hC : ptr = none := hC
    rw [hC] at h48
    rw [fX5_failures_L10]
    simp only [gd_tr, letv_e, rv_e, onul_n, onul_s, ob_e, sI_I, sI_K, sI_L, sI_R, sI_n, sI_z, sR_R, sR_K, sR_L, sR_I, sR_n, sR_z, sN_n, sN_z, true_and, and_true, if_true, and_self, hv, wk_none hv h48]
    cases xs with
    | nil => exact ok_some ⟨rfl, Fr.rf h.wf, rfl, rfl⟩
    | cons _ _ => exact hA.elim
  | cons d R ih =>
    intro xs n fuel ptr t hf h hv h48 hC hA
    rw [List.length_cons] at hf
    obtain ⟨fuel, rfl⟩ : ∃ n, fuel = n + 1 := ⟨fuel - 1, by omega⟩
    obtain ⟨hptr, ⟨d1, d2, d3, d4⟩, hC2⟩ := hC
    rw [hptr] at h48
    cases xs with
    | nil => exact hA.elim
    | cons y xs =>
      obtain ⟨a1, a2⟩ := hA
      have mv : cMut (cK t v) = true := by rw [hv]; rfl
      have fs : Fr (fun y => y = v) t (sR t 48 v (cR t 46 d.1)) := fr_sR h.wf rfl mv
      have c8 : Ch P' (sR t 48 v (cR t 46 d.1)) q R (cR t 46 d.1) := hC2.fr h.wf fs (fun y hy _ e => by rw [e, hv] at hy; exact absurd hy (by decide))
      have h8 : CW P (sR t 48 v (cR t 46 d.1)) w A W := h.frV fs hv
      have eint : fJ5_intValue d.2 (sR t 48 v (cR t 46 d.1)) = some (y.1, sR t 48 v (cR t 46 d.1)) := by
        unfold fJ5_intValue
        simp only [gd_tr, letv_e, rv_e, onul_n, onul_s, ob_e, sI_I, sI_K, sI_L, sI_R, sI_n, sI_z, sR_R, sR_K, sR_L, sR_I, sR_n, sR_z, sN_n, sN_z, true_and, and_true, if_true, and_self, a1.1, a1.2]
      have fa := h.fa hp
      have go : ∀ k, Ok (fX5_failures_L10 (A p) tm0 (some v) (fun v t => some (v, t)) fuel (nI k) (sR t 48 v (cR t 46 d.1))) (fun r t' => r = nI (k + (xs.filter (fun q => decide (¬ q.1 < lim))).length) ∧ Fr (fun y => y = v) t t' ∧ cn t' = cn t ∧ cz t' = cz t) := fun k => by
        refine ok_mono (ih xs k fuel (cR t 46 d.1) _ (by omega) h8 hv (by rw [sR_R, if_pos ⟨rfl, rfl⟩]) c8 (a2.st Vi_st h.wf fs)) (fun r t' z => ?_)
        exact ⟨z.1, fs.then z.2.1, z.2.2.1, z.2.2.2⟩
      rw [fX5_failures_L10]
      simp only [gd_tr, letv_e, rv_e, onul_n, onul_s, ob_e, sI_I, sI_K, sI_L, sI_R, sI_n, sI_z, sR_R, sR_K, sR_L, sR_I, sR_n, sR_z, sN_n, sN_z, true_and, and_true, if_true, and_self, hv, wk_some hv h48, wk_next hv h48 d1, d3, a1.1, eint, fa, jn]
      refine ok_iff (by decide) ?_
      by_cases c : y.1 < tm0 - aF W p 4
      · refine ok_ift c ?_
        rw [List.filter_cons_of_neg (by rw [← hlim]; simpa using c)]
        exact go n
      · refine ok_iff c ?_
        rw [List.filter_cons_of_pos (by rw [← hlim]; simpa using c), nI_add, List.length_cons, show n + ((xs.filter (fun q => decide (¬ q.1 < lim))).length + 1) = n + 1 + (xs.filter (fun q => decide (¬ q.1 < lim))).length from by omega]
        exact go (n + 1)
theorem cw_failures {tm0 : Int32} (h : CW P t w A W) (hp : p < aN W) (hl : (aL W p 4).length ≤ 12) : Ok (fX5_failures (A p) tm0 t) (fun r t' => r = nI ((aL W p 4).filter (fun q => decide (¬ q.1 < tm0 - aF W p 4))).length ∧ Po P w A t t' W W 1 2) := by
  have fa := h.fa hp
  obtain ⟨cs, q1, q2⟩ := h.que hp (k := 4) (by omega)
  have lq : cs.length = (aL W p 4).length := by rw [← List.length_map Prod.snd]; exact q2.len
  obtain ⟨t1, i1, i2, i3, i4, i5, i6, i7⟩ := q_iterO q1 h.wf
  have i1 : fX2_iterator (A p + 5) t = some (some (cn t), t1) := i1
  unfold fX5_failures
  simp only [gd_tr, letv_e, rv_e, onul_n, onul_s, ob_e, sI_I, sI_K, sI_L, sI_R, sI_n, sI_z, sR_R, sR_K, sR_L, sR_I, sR_n, sR_z, sN_n, sN_z, true_and, and_true, if_true, and_self, fa, i1]
  have h1 := h.fr0 i2
  refine ok_mono (cw_failL hp rfl cs (aL W p 4) 0 FU _ t1 (by unfold FU; omega) h1 i3 i4 i5.2.2.2.1 (q2.st (V := fun t => qV 4 t) Vi_st h.wf i2)) (fun r t2 z => ?_)
  obtain ⟨z1, z2, z3, z4⟩ := z
  refine ⟨by rw [z1, Nat.zero_add], Po.ne h (i2.trans z2 (fun y hy e => by omega)) (by omega) (by omega)⟩
/-- a failure is made -/
theorem new_failure {a y : Int32} {c : Option Nat} (hw : cWf t) (hg : cG t) : ∃ t1, fX11_init_2 (cn t) a y c (sN t 10 0 8) = some ((), t1) ∧ Fr (fun _ => False) t t1 ∧ (cK t1 (cn t) = 10 ∧ cI t1 57 (cn t) = a ∧ cI t1 58 (cn t) = y ∧ cR t1 51 (cn t) = c) ∧ cn t1 = cn t + 1 ∧ cz t1 = cz t + 8 := by
  obtain ⟨-, -, g8, g9⟩ := hg
  have k10 : cK (sN t 10 0 8) (cn t) = 10 := by rw [sN_K, if_pos rfl]
  have k99 : cK (sN t 10 0 8) 259 = 99 := by rw [sN_K, if_neg (by omega)]; exact g8
  have n299 : ¬ (299 = cn t) := by omega
  have n299' : ¬ (cn t = 299) := by omega
  refine ⟨sI (sI (sR (sR (sR (sR (sR (sN t 10 0 8) 51 (cn t) (some (cn t))) 52 (cn t) (cR t 52 299)) 53 (cn t) (cR t 53 299)) 54 (cn t) (some 259)) 51 (cn t) c) 57 (cn t) a) 58 (cn t) y, ?_, ?_, ⟨k10, ?_, ?_, ?_⟩, rfl, rfl⟩
  · unfold fX11_init_2 fJ1_init_2 fJ0_init_2
    simp [gd_tr, letv_e, ob_e, sI_K, sR_K, k10, k99, sR_R, sN_R, n299]
  · exact fr_nI (fr_nI (fr_nR (fr_nR (fr_nR (fr_nR (fr_nR (fr_sN hw) (Nat.le_refl _)) (Nat.le_refl _)) (Nat.le_refl _)) (Nat.le_refl _)) (Nat.le_refl _)) (Nat.le_refl _)) (Nat.le_refl _)
  · rw [sI_I, if_neg (by omega), sI_I, if_pos ⟨rfl, rfl⟩]
  · rw [sI_I, if_pos ⟨rfl, rfl⟩]
  · rw [sI_R, sI_R, sR_R, if_pos ⟨rfl, rfl⟩]
end CNO
