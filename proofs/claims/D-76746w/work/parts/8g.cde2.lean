/-! THE COMPONENT: echoes, fans, passes; the stack -/
section CDE2
variable {P : Nat → Prop} {t t' : cS} {w i j x p : Nat} {A : Nat → Nat} {W : aW} {m : Int32 × Int32}
/-- a message is made and sent -/
theorem cw_msg {β : Type} {v n : Int32} {K : Int32 → cS → Option (β × cS)} {Q : β → cS → Prop} (h : CW P t w A W) (hj : j < aN W) (hl : aF W j 5 = nI 0 ∨ aF W j 5 = nI 1) (hc : (aL W j 1).length ≤ 12) (hn : n < nI 1000) (k : ∀ r t', Po P w A t t' W (aSends W j (v, n)).2 2 5 → Ok (K r t') Q) :
    Ok (ob (fX7_init (cn t) v n (sN t 6 0 2)) (fun _ s => gd (cK s w = 2) (ob (fX1_sends w (some (A j)) (some (cn t)) s) K))) Q := by
  obtain ⟨t1, d1, d2, d3, d4, d5⟩ := new_msg (t := t) (v := v) (n := n) h.wf hn
  refine ok_obE d1 ?_
  have p1 : Po P w A t t1 W W 1 2 := Po.ne h d2 (by omega) (by omega)
  refine ok_gd p1.1.fw.1 ?_
  refine ok_ob (cw_sends p1.1 hj hl hc d3) (fun r t2 z => k r t2 ?_)
  exact (p1.trans z.2).le (by omega) (by omega)
theorem lt_1000 {n : Int32} (h : n.toInt ≤ 99) : n < nI 1000 := i_lt.mpr (by rw [nI_i (by omega)]; omega)
theorem cw_echoes {tm : Nat} (h : CW P t w A W) (hI : aI W tm) (hi : i < aN W) (hx : Mo t x m) (hm1 : m.1 = -1 ∨ ∃ j, j < aN W ∧ m.1 = nI j) (hm2 : m.2.toInt ≤ 99) : Ok (fX3_echoes (w + 4) (some (A i)) (some x) t) (fun _ t' => Po P w A t t' W (if 0 < m.2 ∧ ¬ m.1 < 0 then (aSends W m.1.toNatClampNeg (nI i, m.2 - nI 1)).2 else W) 2 5) := by
  have hN : aN W ≤ 12 := h.sp.1
  have fw := h.fw
  have fa := h.fa hi
  obtain ⟨x1, x2, x3⟩ := hx
  have hxl : x < cn t := h.wf.lt (by rw [x1]; decide)
  have hal := h.lt fa.2.2.1 (by decide)
  have efrom : fX3_from (w + 4) (some x) t = some (m.1, t) := by
    unfold fX3_from
    simp only [gd_tr, letv_e, rv_e, onul_n, onul_s, ob_e, sI_I, sI_K, sI_L, sI_R, sI_n, sI_z, sR_R, sR_K, sR_L, sR_I, sR_n, sR_z, sN_n, sN_z, true_and, and_true, if_true, and_self, x1, x2, true_or]
  unfold fX3_echoes
  simp only [gd_tr, letv_e, rv_e, onul_n, onul_s, ob_e, sI_I, sI_K, sI_L, sI_R, sI_n, sI_z, sR_R, sR_K, sR_L, sR_I, sR_n, sR_z, sN_n, sN_z, true_and, and_true, if_true, and_self, fw, efrom, x1, x3]
  by_cases c : 0 < m.2
  · refine ok_ift c ?_
    rcases hm1 with e | ⟨j, hj, e⟩
    · refine ok_ift (by rw [e]; decide) ?_
      rw [if_neg (fun z => z.2 (by rw [e]; decide))]
      exact ok_some ((Po.rf h).le (by omega) (by omega))
    · rw [e]
      have fj := h.fa hj
      refine ok_iff (by show ¬ nI j < nI 0; exact nI_nlt (Nat.zero_le _) (by omega)) ?_
      rw [if_pos ⟨c, by show ¬ nI j < nI 0; exact nI_nlt (Nat.zero_le _) (by omega)⟩]
      have k5 : cK (sN t 6 0 2) (A i) = 5 := by rw [sN_K, if_neg (by omega)]; exact fa.2.2.1
      have e26 : cI (sN t 6 0 2) 26 (A i) = nI i := by rw [sN_I, if_neg (by omega)]; exact fa.2.2.2.1.1
      have k6 : cK (sN t 6 0 2) x = 6 := by rw [sN_K, if_neg (by omega)]; exact x1
      have e44 : cI (sN t 6 0 2) 44 x = m.2 := by rw [sN_I, if_neg (by omega)]; exact x3
      simp only [gd_tr, letv_e, rv_e, onul_n, onul_s, ob_e, sI_I, sI_K, sI_L, sI_R, sI_n, sI_z, sR_R, sR_K, sR_L, sR_I, sR_n, sR_z, sN_n, sN_z, true_and, and_true, if_true, and_self, cIn, fw, fj, k5, e26, k6, e44, not_false_eq_true]
      rw [nI_clamp (by omega)]
      have hpos : (m.2 - nI 1).toInt ≤ 99 := by
        have h0 := i_lt.mp c
        have e0 : (0 : Int32).toInt = 0 := by decide
        have e1 : (nI 1).toInt = 1 := by decide
        rw [i_sub (by omega) (by omega)]
        omega
      exact cw_msg (v := nI i) (n := m.2 - nI 1) h hj (hI.live hj) ((hI.act hj).2.2.1.1) (lt_1000 hpos) (fun r t1 z => ok_some z)
  · refine ok_iff c ?_
    rw [if_neg (fun z => c z.1)]
    exact ok_some ((Po.rf h).le (by omega) (by omega))
theorem cw_fansL {tm : Nat} (hm2 : m.2.toInt ≤ 99) (hm3 : -99 ≤ m.2.toInt) : ∀ (k j fuel : Nat) (W : aW) (t : cS), k < fuel → j + k = aN W → CW P t w A W → aI W tm → i < aN W → Mo t x m →
    Ok (fX3_fans_L2 (w + 4) (some (A i)) (some x) (fun t => some ((), t)) fuel (nI j) t) (fun _ t' => Po P w A t t' W (aPass i m.2 true k j W) (2 * k) (5 * k)) := by
  intro k
  induction k with
  | zero =>
    intro j fuel W t hf hj h hI hi hx
    obtain ⟨fuel, rfl⟩ : ∃ n, fuel = n + 1 := ⟨fuel - 1, by omega⟩
    have hN : aN W ≤ 12 := h.sp.1
    have fw := h.fw
    rw [fX3_fans_L2]
    refine ok_gd fw.2.2.2.2.2.2.2.1 (ok_letv ?_)
    refine ok_rv fw.2.2.2.2.2.2.2.2.1 ?_
    refine ok_gd fw.1 (ok_letv ?_)
    rw [fw.2.2.1]
    refine ok_iff (nI_nlt (by omega) (by omega)) ?_
    exact ok_some (Po.rf h)
  | succ k ih =>
    intro j fuel W t hf hj h hI hi hx
    obtain ⟨fuel, rfl⟩ : ∃ n, fuel = n + 1 := ⟨fuel - 1, by omega⟩
    have hN : aN W ≤ 12 := h.sp.1
    have hj2 : j < aN W := by omega
    have fw := h.fw
    have fa := h.fa hi
    have fj := h.fa hj2
    have hxl : x < cn t := h.wf.lt (by rw [hx.1]; decide)
    have hal := h.lt fa.2.2.1 (by decide)
    have k5 : cK (sN t 6 0 2) (A i) = 5 := by rw [sN_K, if_neg (by omega)]; exact fa.2.2.1
    have e26 : cI (sN t 6 0 2) 26 (A i) = nI i := by rw [sN_I, if_neg (by omega)]; exact fa.2.2.2.1.1
    have k6 : cK (sN t 6 0 2) x = 6 := by rw [sN_K, if_neg (by omega)]; exact hx.1
    have e44 : cI (sN t 6 0 2) 44 x = m.2 := by rw [sN_I, if_neg (by omega)]; exact hx.2.2
    rw [fX3_fans_L2]
    simp only [gd_tr, letv_e, rv_e, onul_n, onul_s, ob_e, sI_I, sI_K, sI_L, sI_R, sI_n, sI_z, sR_R, sR_K, sR_L, sR_I, sR_n, sR_z, sN_n, sN_z, true_and, and_true, if_true, and_self, cIn, fw, fj, fa, not_false_eq_true, jn, k5, e26, k6, e44]
    refine ok_ift (nI_lt hj2 (by omega)) ?_
    unfold aPass
    have go : Ok (fX3_fans_L2 (w + 4) (some (A i)) (some x) (fun t => some ((), t)) fuel (nI j + nI 1) t) (fun _ t' => Po P w A t t' W (aPass i m.2 true k (j + 1) W) (2 * (k + 1)) (5 * (k + 1))) := by
      rw [nI_add]
      exact ok_mono (ih (j + 1) fuel W t (by omega) (by omega) h hI hi hx) (fun _ t' z => z.le (by omega) (by omega))
    by_cases c0 : aF W j 0 = nI i
    · refine ok_ift c0 ?_
      rcases hI.live hj2 with c5 | c5
      · refine ok_ift (by rw [c5]; rfl) ?_
        rw [if_neg (fun z => by rw [c5] at z; exact absurd z.2 (by decide))]
        exact go
      · refine ok_iff (by rw [c5]; decide) ?_
        rw [if_pos ⟨c0, c5⟩, if_pos rfl]
        refine cw_msg (v := nI i) (n := m.2) h hj2 (hI.live hj2) ((hI.act hj2).2.2.1.1) (lt_1000 hm2) (fun r t1 z => ?_)
        rw [nI_add]
        have ms : aM W (aSends W j (nI i, m.2)).2 := aM_sends
        refine ok_mono (ih (j + 1) fuel (aSends W j (nI i, m.2)).2 t1 (by omega) (by rw [ms.1]; omega) z.1 (aI_sends hI (mOk_n hi hm3 hm2)) (by rw [ms.1]; exact hi) (hx.st h.wf z.2.1)) (fun _ t' y => ?_)
        exact (z.trans y).le (by omega) (by omega)
    · refine ok_iff c0 ?_
      rw [if_neg (fun z => c0 z.1)]
      exact go
theorem cw_passesL {tm : Nat} (hm2 : m.2.toInt ≤ 99) (hm3 : -99 ≤ m.2.toInt) : ∀ (k j fuel : Nat) (t : cS), k < fuel → j + k = aN W → CW P t w A W → aI W tm → i < aN W → Mo t x m →
    Ok (fX3_passes_L2 (w + 4) (some (A i)) (some x) (fun t => some ((), t)) fuel (nI j) t) (fun _ t' => Po P w A t t' W (aPass i m.2 false k j W) 2 5) := by
  intro k
  induction k with
  | zero =>
    intro j fuel t hf hj h hI hi hx
    obtain ⟨fuel, rfl⟩ : ∃ n, fuel = n + 1 := ⟨fuel - 1, by omega⟩
    have hN : aN W ≤ 12 := h.sp.1
    have fw := h.fw
    rw [fX3_passes_L2]
    refine ok_gd fw.2.2.2.2.2.2.2.1 (ok_letv ?_)
    refine ok_rv fw.2.2.2.2.2.2.2.2.1 ?_
    refine ok_gd fw.1 (ok_letv ?_)
    rw [fw.2.2.1]
    refine ok_iff (nI_nlt (by omega) (by omega)) ?_
    exact ok_some ((Po.rf h).le (by omega) (by omega))
  | succ k ih =>
    intro j fuel t hf hj h hI hi hx
    obtain ⟨fuel, rfl⟩ : ∃ n, fuel = n + 1 := ⟨fuel - 1, by omega⟩
    have hN : aN W ≤ 12 := h.sp.1
    have hj2 : j < aN W := by omega
    have fw := h.fw
    have fa := h.fa hi
    have fj := h.fa hj2
    have hxl : x < cn t := h.wf.lt (by rw [hx.1]; decide)
    have hal := h.lt fa.2.2.1 (by decide)
    have k5 : cK (sN t 6 0 2) (A i) = 5 := by rw [sN_K, if_neg (by omega)]; exact fa.2.2.1
    have e26 : cI (sN t 6 0 2) 26 (A i) = nI i := by rw [sN_I, if_neg (by omega)]; exact fa.2.2.2.1.1
    have k6 : cK (sN t 6 0 2) x = 6 := by rw [sN_K, if_neg (by omega)]; exact hx.1
    have e44 : cI (sN t 6 0 2) 44 x = m.2 := by rw [sN_I, if_neg (by omega)]; exact hx.2.2
    rw [fX3_passes_L2]
    simp only [gd_tr, letv_e, rv_e, onul_n, onul_s, ob_e, sI_I, sI_K, sI_L, sI_R, sI_n, sI_z, sR_R, sR_K, sR_L, sR_I, sR_n, sR_z, sN_n, sN_z, true_and, and_true, if_true, and_self, cIn, fw, fj, fa, not_false_eq_true, jn, k5, e26, k6, e44]
    refine ok_ift (nI_lt hj2 (by omega)) ?_
    unfold aPass
    have go : Ok (fX3_passes_L2 (w + 4) (some (A i)) (some x) (fun t => some ((), t)) fuel (nI j + nI 1) t) (fun _ t' => Po P w A t t' W (aPass i m.2 false k (j + 1) W) 2 5) := by
      rw [nI_add]
      exact ih (j + 1) fuel t (by omega) (by omega) h hI hi hx
    by_cases c0 : aF W j 0 = nI i
    · refine ok_ift c0 ?_
      rcases hI.live hj2 with c5 | c5
      · refine ok_ift (by rw [c5]; rfl) ?_
        rw [if_neg (fun z => by rw [c5] at z; exact absurd z.2 (by decide))]
        exact go
      · refine ok_iff (by rw [c5]; decide) ?_
        rw [if_pos ⟨c0, c5⟩, if_neg (by decide)]
        exact cw_msg (v := nI i) (n := m.2) h hj2 (hI.live hj2) ((hI.act hj2).2.2.1.1) (lt_1000 hm2) (fun r t1 z => ok_some z)
    · refine ok_iff c0 ?_
      rw [if_neg (fun z => c0 z.1)]
      exact go
end CDE2
