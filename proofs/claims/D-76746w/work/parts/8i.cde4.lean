/-! THE COMPONENT: switches, watches, the two lambdas -/
section CDE4
variable {P : Nat → Prop} {t t' : cS} {w i j x p : Nat} {A : Nat → Nat} {W : aW} {m : Int32 × Int32}
theorem cw_switches (h : CW P t w A W) (hi : i < aN W) (h5 : (aL W i 0).length ≤ 5) (hx : Mo t x m) : Ok (fX3_switches (w + 4) (some (A i)) (some x) t) (oQ P w A t W (if m.2 < 0 then uL W i 0 (if 1 < (aL W i 0).length then (aL W i 0).dropLast else aL W i 0) else uL W i 0 (aL W i 0 ++ [(irm m.2 (nI 10), nI 0)])) (¬ m.2 < 0 ∧ (aL W i 0).length = 5) (fun t' e => cK t' e = 12) 4 228) := by
  have fa := h.fa hi
  obtain ⟨x1, x2, x3⟩ := hx
  unfold fX3_switches
  simp only [gd_tr, letv_e, rv_e, onul_n, onul_s, ob_e, sI_I, sI_K, sI_L, sI_R, sI_n, sI_z, sR_R, sR_K, sR_L, sR_I, sR_n, sR_z, sN_n, sN_z, true_and, and_true, if_true, and_self, fa, x1, x3]
  by_cases c : m.2 < 0
  · refine ok_ift c ?_
    refine ok_ob (cw_goesBack h hi h5) (fun _ t1 z => ok_some ?_)
    refine ⟨fun q => q.1 c, ?_⟩
    rw [if_pos c]
    exact z.le (by omega) (by omega)
  · refine ok_iff c ?_
    refine ok_obx (cw_becomes h hi h5) (fun r t1 z => ?_) (fun e t1 z => ?_)
    · refine ok_some ⟨fun q => z.1 q.2, ?_⟩
      rw [if_neg c]
      exact z.2
    · refine ok_gd z.2.2 ?_
      exact ok_some ⟨⟨c, z.1⟩, z.2.1, z.2.2⟩
theorem cw_lam0 (h : CW P t w A W) (hi : i < aN W) (hx : Mo t x m) : Ok (fX3_lambda_of_0 (some (A i)) (some x) t) (fun _ t' => Po P w A t t' W (uF W i 6 (aF W i 6 + m.2)) 0 0) := by
  have fa := h.fa hi
  obtain ⟨x1, x2, x3⟩ := hx
  unfold fX3_lambda_of_0
  simp only [gd_tr, letv_e, rv_e, onul_n, onul_s, ob_e, sI_I, sI_K, sI_L, sI_R, sI_n, sI_z, sR_R, sR_K, sR_L, sR_I, sR_n, sR_z, sN_n, sN_z, true_and, and_true, if_true, and_self, fa, x1, x3]
  exact ok_some (Po.a6 h hi)
theorem cw_lam1 {tm : Nat} (h : CW P t w A W) (hI : aI W tm) (hi : i < aN W) : Ok (fX3_lambda_of_1 (w + 4) (some (A i)) (some x) t) (fun _ t' => Po P w A t t' W (aStop 13 W i) 0 0) := by
  have hN : aN W ≤ 12 := h.sp.1
  have fw := h.fw
  unfold fX3_lambda_of_1
  refine ok_gd fw.2.2.2.2.2.2.2.1 (ok_letv ?_)
  refine ok_rv fw.2.2.2.2.2.2.2.2.1 ?_
  refine ok_gd fw.1 ?_
  exact ok_ob (cw_stops (tm := tm) 13 W i t h hI hi (by omega)) (fun _ t1 z => ok_some z)
theorem cw_wbL {P' : Nat → Prop} {q v : Nat} {n : Int32} : ∀ (R : List (Nat × Nat)) (xs : List (Int32 × Int32)) (fuel : Nat) (ptr : Option Nat) (t : cS), R.length < fuel → cWf t → cK t v = 8 → cR t 48 v = ptr → Ch P' t q R ptr → Al (Vi t) (R.map Prod.snd) xs →
    Ok (fX5_isWatchedBy_L8 n (some v) (fun t => some (nI 0, t)) fuel t) (fun r t' => r = zb (xs.any (fun q => q.1 == n)) ∧ Fr (fun y => y = v) t t' ∧ cn t' = cn t ∧ cz t' = cz t) := by
  intro R
  induction R with
  | nil =>
    intro xs fuel ptr t hf hw hv h48 hC hA
    obtain ⟨fuel, rfl⟩ : ∃ n, fuel = n + 1 := ⟨fuel - 1, by omega⟩
    have hC : ptr = none := hC
    rw [hC] at h48
    rw [fX5_isWatchedBy_L8]
    simp only [gd_tr, letv_e, rv_e, onul_n, onul_s, ob_e, sI_I, sI_K, sI_L, sI_R, sI_n, sI_z, sR_R, sR_K, sR_L, sR_I, sR_n, sR_z, sN_n, sN_z, true_and, and_true, if_true, and_self, hv, wk_none hv h48]
    cases xs with
    | nil => exact ok_some ⟨rfl, Fr.rf hw, rfl, rfl⟩
    | cons _ _ => exact hA.elim
  | cons d R ih =>
    intro xs fuel ptr t hf hw hv h48 hC hA
    rw [List.length_cons] at hf
    obtain ⟨fuel, rfl⟩ : ∃ n, fuel = n + 1 := ⟨fuel - 1, by omega⟩
    obtain ⟨hptr, ⟨d1, d2, d3, d4⟩, hC2⟩ := hC
    rw [hptr] at h48
    cases xs with
    | nil => exact hA.elim
    | cons y xs =>
      obtain ⟨a1, a2⟩ := hA
      have mv : cMut (cK t v) = true := by rw [hv]; rfl
      have fs : Fr (fun y => y = v) t (sR t 48 v (cR t 46 d.1)) := fr_sR hw rfl mv
      have c8 : Ch P' (sR t 48 v (cR t 46 d.1)) q R (cR t 46 d.1) := hC2.fr hw fs (fun y hy _ e => by rw [e, hv] at hy; exact absurd hy (by decide))
      have eint : fJ5_intValue d.2 (sR t 48 v (cR t 46 d.1)) = some (y.1, sR t 48 v (cR t 46 d.1)) := by
        unfold fJ5_intValue
        simp only [gd_tr, letv_e, rv_e, onul_n, onul_s, ob_e, sI_I, sI_K, sI_L, sI_R, sI_n, sI_z, sR_R, sR_K, sR_L, sR_I, sR_n, sR_z, sN_n, sN_z, true_and, and_true, if_true, and_self, a1.1, a1.2]
      rw [fX5_isWatchedBy_L8]
      simp only [gd_tr, letv_e, rv_e, onul_n, onul_s, ob_e, sI_I, sI_K, sI_L, sI_R, sI_n, sI_z, sR_R, sR_K, sR_L, sR_I, sR_n, sR_z, sN_n, sN_z, true_and, and_true, if_true, and_self, hv, wk_some hv h48, wk_next hv h48 d1, d3, a1.1, eint]
      refine ok_iff (by decide) ?_
      by_cases c : y.1 = n
      · refine ok_ift c ?_
        exact ok_some ⟨by rw [List.any_cons, show (y.1 == n) = true from by simpa using c]; rfl, fs, rfl, rfl⟩
      · refine ok_iff c ?_
        rw [List.any_cons, show (y.1 == n) = false from by simpa using c, Bool.false_or]
        refine ok_mono (ih xs fuel (cR t 46 d.1) _ (by omega) hw hv (by rw [sR_R, if_pos ⟨rfl, rfl⟩]) c8 (a2.st Vi_st hw fs)) (fun r t' z => ?_)
        exact ⟨z.1, fs.then z.2.1, z.2.2.1, z.2.2.2⟩
theorem cw_isWatchedBy {n : Int32} (h : CW P t w A W) (hj : j < aN W) (hl : (aL W j 3).length ≤ 12) : Ok (fX5_isWatchedBy (A j) n t) (fun r t' => r = zb ((aL W j 3).any (fun q => q.1 == n)) ∧ Po P w A t t' W W 1 2) := by
  have fa := h.fa hj
  obtain ⟨cs, q1, q2⟩ := h.que hj (k := 3) (by omega)
  have lq : cs.length = (aL W j 3).length := by rw [← List.length_map Prod.snd]; exact q2.len
  obtain ⟨t1, i1, i2, i3, i4, i5, i6, i7⟩ := q_iterO q1 h.wf
  have i1 : fX2_iterator (A j + 4) t = some (some (cn t), t1) := i1
  unfold fX5_isWatchedBy
  simp only [gd_tr, letv_e, rv_e, onul_n, onul_s, ob_e, sI_I, sI_K, sI_L, sI_R, sI_n, sI_z, sR_R, sR_K, sR_L, sR_I, sR_n, sR_z, sN_n, sN_z, true_and, and_true, if_true, and_self, fa, i1]
  refine ok_mono (cw_wbL cs (aL W j 3) FU _ t1 (by unfold FU; omega) i2.1.2 i3 i4 i5.2.2.2.1 (q2.st (V := fun t => qV 3 t) Vi_st h.wf i2)) (fun r t2 z => ?_)
  obtain ⟨z1, z2, z3, z4⟩ := z
  exact ⟨z1, Po.ne h (i2.trans z2 (fun y hy e => by omega)) (by omega) (by omega)⟩
theorem cSp.inj {N : Nat} (h : cSp w N A) (hi : i < N) (hj : j < N) (e : A i = A j) : i = j := by
  rcases Nat.lt_trichotomy i j with z | z | z
  · have := h.2.2 i j z hj
    omega
  · exact z
  · have := h.2.2 j i z hi
    omega
theorem cw_watches {tm : Nat} (h : CW P t w A W) (hI : aI W tm) (hi : i < aN W) (hx : Mo t x m) (h1 : -99 ≤ m.2.toInt) (h2 : m.2.toInt ≤ 99) : Ok (fX3_watches (w + 4) (some (A i)) (some x) t) (fun _ t' => Po P w A t t' W (aWatches W i m.2) 5 12) := by
  have hN : aN W ≤ 12 := h.sp.1
  have fw := h.fw
  have fa := h.fa hi
  obtain ⟨x1, x2, x3⟩ := hx
  have hal := h.lt fa.2.2.1 (by decide)
  obtain ⟨hb, eb⟩ := who_lt (w := W) h1 h2 (by omega) hN
  have fb := h.fa hb
  have hbl := h.lt fb.2.2.1 (by decide)
  have ne99 : (2 : Nat) ≠ 99 := by decide
  unfold aWatches
  generalize aWho W m.2 = b at hb eb fb hbl ⊢
  have hcase : (m.2 < 0 ∧ irm (m.2 + nI 99) (nI (aN W)) = nI b) ∨ (¬ m.2 < 0 ∧ irm m.2 (nI (aN W)) = nI b) := by
    by_cases c : m.2 < 0
    · rw [if_pos c] at eb; exact Or.inl ⟨c, eb⟩
    · rw [if_neg c] at eb; exact Or.inr ⟨c, eb⟩
  have hN0 : ¬ nI (aN W) = 0 := fun q => by
    have := (nI_z (by omega)).mp q
    omega
  have l3 : (aL W b 3).length ≤ 12 := by
    have g := (hI.act hb).2.2.2.2.1
    have h4 : (aL W b 3) ⊆ (List.range (aN W)).map (fun j => (nI j, nI 0)) := fun q hq => by
      obtain ⟨l, hl, e⟩ := g.2 q hq
      exact List.mem_map.mpr ⟨l, List.mem_range.mpr hl, e.symm⟩
    have h5 := g.1.length_le_of_subset h4
    rw [List.length_map, List.length_range] at h5
    omega
  clear eb
  unfold fX3_watches
  refine ok_gd fw.2.2.2.2.2.2.2.1 (ok_letv ?_)
  refine ok_rv fw.2.2.2.2.2.2.2.2.1 ?_
  refine ok_gd fw.1 (ok_letv ?_)
  refine ok_rv rfl ?_
  refine ok_gd x1 (ok_letv ?_)
  refine ok_jn ?_
  rw [x3]
  rcases hcase with ⟨c, eb⟩ | ⟨c, eb⟩
  all_goals (first | refine ok_ift c ?_ | refine ok_iff c ?_)
  all_goals refine ok_gd x1 (ok_letv ?_)
  all_goals refine ok_gd fw.2.2.2.2.2.2.2.1 (ok_letv ?_)
  all_goals refine ok_rv fw.2.2.2.2.2.2.2.2.1 ?_
  all_goals refine ok_gd fw.1 (ok_letv ?_)
  all_goals rw [fw.2.2.1]
  all_goals refine ok_gd hN0 ?_
  all_goals refine ok_rv fw.2.1 ?_
  all_goals rw [eb]
  all_goals refine ok_gd ⟨fw.2.2.2.2.2.2.2.2.2, fb.1⟩ (ok_letv ?_)
  all_goals refine ok_rv rfl ?_
  all_goals refine ok_rv fb.2.1 ?_
  all_goals refine ok_gd ⟨by rw [fb.2.2.1]; decide, by rw [fa.2.2.1]; decide⟩ ?_
  all_goals by_cases cb : b = i
  all_goals (first
    | (refine ok_ift (by rw [cb]) ?_
       rw [if_pos cb]
       exact ok_some ((Po.rf h).le (by omega) (by omega)))
    | skip)
  all_goals refine ok_iff (fun e => cb (h.sp.inj hb hi e)) ?_
  all_goals rw [if_neg cb]
  all_goals refine ok_gd fb.2.2.1 (ok_letv ?_)
  all_goals rw [fb.2.2.2.1.2.2.2.2.2.2.1]
  all_goals rcases hI.live hb with c5 | c5
  all_goals (first
    | (refine ok_ift (by rw [c5]; rfl) ?_
       rw [if_neg (fun z => by rw [c5] at z; exact absurd z (by decide))]
       refine ok_gd fw.2.2.2.2.2.2.2.1 (ok_letv ?_)
       refine ok_letv ?_
       have k5 : cK (sN t 9 0 2) (A b) = 5 := by rw [sN_K, if_neg (by omega)]; exact fb.2.2.1
       have e26 : cI (sN t 9 0 2) 26 (A b) = nI b := by rw [sN_I, if_neg (by omega)]; exact fb.2.2.2.1.1
       refine ok_gd k5 (ok_letv ?_)
       rw [e26]
       obtain ⟨t1, d1, d2, d3, d4, d5⟩ := new_death (t := t) (n := nI b) h.wf
       refine ok_obE d1 ?_
       refine ok_rv fw.2.2.2.2.2.2.2.2.1 ?_
       have p1 : Po P w A t t1 W W 1 2 := Po.ne h d2 (Nat.le_of_eq d4) (Nat.le_of_eq d5)
       refine ok_gd p1.1.fw.1 ?_
       refine ok_ob (cw_sends p1.1 hi (hI.live hi) ((hI.act hi).2.2.1.1) (d3 b (by omega) rfl)) (fun r t2 z => ok_some ?_)
       exact (p1.trans z.2).le (by omega) (by omega))
    | skip)
  all_goals refine ok_iff (by rw [c5]; decide) ?_
  all_goals rw [if_pos c5]
  all_goals refine ok_gd fa.2.2.1 (ok_letv ?_)
  all_goals rw [fa.2.2.2.1.1]
  all_goals refine ok_gd fb.2.2.1 ?_
  all_goals refine ok_ob (cw_isWatchedBy (n := nI i) h hb l3) (fun r t1 z => ?_)
  all_goals obtain ⟨er, p1⟩ := z
  all_goals subst er
  all_goals cases hany : (aL W b 3).any (fun q => q.1 == nI i)
  all_goals (first
    | (refine ok_iff (by decide) ?_
       rw [if_pos rfl]
       exact ok_some (p1.le (by omega) (by omega)))
    | skip)
  all_goals refine ok_ift rfl ?_
  all_goals rw [if_neg (by decide)]
  all_goals (
    have c1 := p1.1
    have fb1 := c1.fa hb
    have fa1 := c1.fa hi
    refine ok_gd fb1.2.2.1 (ok_letv ?_)
    refine ok_gd fa1.2.2.1 (ok_letv ?_)
    rw [fa1.2.2.2.1.1]
    obtain ⟨y, t2, v1, v2, v3, v4, v5⟩ := c_valueOf (t := t1) (n := i) c1.wf c1.g (by omega)
    refine ok_obE v1 ?_
    refine ok_rv fb1.2.2.2.2.1.2.2.2.2.1 ?_
    have p2 : Po P w A t1 t2 W W 1 1 := Po.ne c1 v2 v4 v5
    have c2 := p2.1
    have fb2 := c2.fa hb
    refine ok_gd fb2.2.2.2.2.2.2.2.2.1 ?_
    obtain ⟨cs, q1, q2⟩ := c2.que hb (k := 3) (by omega)
    have lq : cs.length = (aL W b 3).length := by rw [← List.length_map Prod.snd]; exact q2.len
    have hni : ¬ (nI i, nI 0) ∈ aL W b 3 := fun q => by
      rw [List.any_eq_false] at hany
      exact hany _ q (by simp)
    have g := (hI.act hb).2.2.2.2.1
    have hl := push_12 g.1 g.2 hi hN hni
    refine ok_ob (qr_puts (m := 12) (x := y) q1 c2.wf (by omega) (by omega) (c2.up _ (Nat.le_refl _))) (fun r t3 k => ?_)
    rw [if_neg (by omega)] at k
    obtain ⟨-, r3, f3, e1, e2⟩ := k
    have p3 : Po P w A t2 t3 W (uL W b 3 (aL W b 3 ++ [(nI i, nI 0)])) 3 9 := by
      refine Po.qk c2 hb (by omega) q1 f3 ⟨_, r3, ?_⟩ ?_ ?_
      · rw [List.map_append]
        exact Al.app (l' := [y]) (m' := [(nI i, nI 0)]) ⟨Vi_st _ _ _ _ _ c2.wf f3 v3, trivial⟩ (q2.st (V := fun t => qV 3 t) Vi_st c2.wf f3)
      · unfold Pw
        rw [uL_L, if_neg (by omega), uL_L, if_pos ⟨rfl, rfl⟩, List.length_append]
        show cn t3 + (_ + 2 * ((aL W b 3).length + 1)) ≤ _
        omega
      · unfold Pw
        rw [uL_L, if_neg (by omega), uL_L, if_pos ⟨rfl, rfl⟩, List.length_append]
        show cz t3 + 3 * (_ + 2 * ((aL W b 3).length + 1)) ≤ _
        omega
    exact ok_some ((p1.trans (p2.trans p3)).le (by omega) (by omega)))
end CDE4
