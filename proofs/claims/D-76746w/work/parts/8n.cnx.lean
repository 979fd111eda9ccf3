/-! THE COMPONENT: which is next -/
section CNX
variable {P : Nat → Prop} {t t' : cS} {w i j x p : Nat} {A : Nat → Nat} {W : aW} {m : Int32 × Int32} {tm : Nat}
theorem cw_isLive {k : Nat} (h : CW P t w A W) (hI : aI W tm) (hk : k < 2 ^ 31) : fX1_isLive w (nI k) t = some (if k < aN W ∧ aF W k 5 = nI 1 then nI 1 else nI 0, t) := by
  have hN : aN W ≤ 12 := h.sp.1
  have fw := h.fw
  have nneg : ¬ nI k < 0 := by show ¬ nI k < nI 0; exact nI_nlt (Nat.zero_le _) hk
  unfold fX1_isLive
  rw [if_neg nneg]
  by_cases c : k < aN W
  · have fk := h.fa c
    simp only [gd_tr, letv_e, rv_e, onul_n, onul_s, ob_e, sI_I, sI_K, sI_L, sI_R, sI_n, sI_z, sR_R, sR_K, sR_L, sR_I, sR_n, sR_z, sN_n, sN_z, true_and, and_true, if_true, and_self, cIn, fw, fk, not_false_eq_true]
    rw [if_pos (nI_lt c (by omega))]
    rcases hI.live c with e | e
    · rw [e, if_pos (by decide), if_neg (fun z => absurd z.2 (by decide))]
    · rw [e, if_neg (by decide), if_pos ⟨c, rfl⟩]
  · simp only [gd_tr, letv_e, rv_e, onul_n, onul_s, ob_e, sI_I, sI_K, sI_L, sI_R, sI_n, sI_z, sR_R, sR_K, sR_L, sR_I, sR_n, sR_z, sN_n, sN_z, true_and, and_true, if_true, and_self, fw]
    rw [if_neg (nI_nlt (by omega) hk), if_neg (fun z => c z.1)]
theorem cw_nx {L : Nat} (h : CW P t w A W) (hI : aI W tm) (hL : L ≤ 12) (eL : aG W 3 + nI 1 = nI L) : ∀ (n k fuel : Nat), n < fuel → k + n = 12 → fX1_next_L2 w (fun t18 => some (none, t18)) fuel (nI (k + 1)) t = some ((aNextN W n (L + k)).map A, t) := by
  have hN : aN W ≤ 12 := h.sp.1
  have fw := h.fw
  have e8 : cI t 8 w = aG W 3 := h.w1.2.1.2.1
  intro n
  induction n with
  | zero =>
    intro k fuel hf hk
    obtain ⟨fuel, rfl⟩ : ∃ n, fuel = n + 1 := ⟨fuel - 1, by omega⟩
    rw [fX1_next_L2, if_pos (nI_lt (by omega) (by omega))]
    rfl
  | succ n ih =>
    intro k fuel hf hk
    obtain ⟨fuel, rfl⟩ : ∃ n, fuel = n + 1 := ⟨fuel - 1, by omega⟩
    have key : Ok (fX1_next_L2 w (fun t18 => some (none, t18)) (fuel + 1) (nI (k + 1)) t) (fun r t' => r = (aNextN W (n + 1) (L + k)).map A ∧ t' = t) := by
      have go : Ok (letv (nI (k + 1) + nI 1) (fun y6 => fX1_next_L2 w (fun t18 => some (none, t18)) fuel y6 t)) (fun r t' => r = (aNextN W n (L + k + 1)).map A ∧ t' = t) := by
        refine ok_letv ?_
        rw [nI_add, ih (k + 1) fuel (by omega) (by omega)]
        exact ok_some ⟨rfl, rfl⟩
      rw [fX1_next_L2]
      refine ok_iff (nI_nlt (by omega) (by omega)) ?_
      refine ok_gd fw.1 (ok_letv ?_)
      refine ok_letv ?_
      have e : irm (aG W 3 + nI (k + 1) + nI 12) (nI 12) = nI ((L + k) % 12) := by
        have e1 : aG W 3 + nI (k + 1) + nI 12 = nI (L + k + 12) := by
          rw [Int32.add_assoc, nI_add, show k + 1 + 12 = 1 + (k + 12) from by omega, ← nI_add 1, ← Int32.add_assoc, eL, nI_add, Nat.add_assoc]
        rw [e1, irm_n (by omega) (by omega) (by omega)]
        congr 1
        omega
      rw [e8, e]
      unfold aNextN
      have hlt : (L + k) % 12 < 12 := Nat.mod_lt _ (by omega)
      generalize (L + k) % 12 = i at hlt
      refine ok_gd fw.1 ?_
      refine ok_obE (cw_isLive h hI (by omega)) ?_
      refine ok_jn ?_
      by_cases c : i < aN W ∧ aF W i 5 = nI 1
      · rw [if_pos c]
        refine ok_iff (by decide) ?_
        have fi := h.fa c.1
        have e24 : cI t 24 (A i + 2) = nI (aL W i 1).length := (h.que c.1 (k := 1) (by omega)).len
        have hcap : (aL W i 1).length ≤ 12 := (hI.act c.1).2.2.1.1
        simp only [gd_tr, letv_e, rv_e, onul_n, onul_s, ob_e, sI_I, sI_K, sI_L, sI_R, sI_n, sI_z, sR_R, sR_K, sR_L, sR_I, sR_n, sR_z, sN_n, sN_z, true_and, and_true, if_true, and_self, cIn, fw, fi, not_false_eq_true, e24]
        by_cases c3 : aL W i 1 = []
        · refine ok_iff (by rw [c3]; decide) ?_
          rw [if_neg (fun q => q.2.2 c3)]
          exact go
        · refine ok_ift ((nI_lt0 (by omega)).mpr (List.length_pos_iff.mpr c3)) ?_
          rw [if_pos ⟨c.1, c.2, c3⟩]
          exact ok_some ⟨rfl, rfl⟩
      · rw [if_neg c]
        refine ok_ift rfl ?_
        rw [if_neg (fun q => c ⟨q.1, q.2.1⟩)]
        exact go
    obtain ⟨r, t', e, rfl, rfl⟩ := key
    exact e
theorem cw_next (h : CW P t w A W) (hI : aI W tm) : fX1_next w t = some ((aNext W).map A, t) := by
  obtain ⟨L, hL, eL, ef⟩ := hI.from
  unfold fX1_next aNext
  rw [ef]
  exact cw_nx h hI hL eL 12 0 FU (by unfold FU; omega) (by omega)
theorem cw_isMore (h : CW P t w A W) (hI : aI W tm) : fX1_isMore w t = some (if aNext W = none ∧ aT W = [] then nI 0 else nI 1, t) := by
  have fw := h.fw
  have ht : (aT W).length ≤ 10 := hI.2.2.2.2.1.1
  have e24 : cI t 24 (w + 2) = nI (aT W).length := by rw [h.tm.len, tSo_len]
  have key : Ok (fX1_isMore w t) (fun r t' => r = (if aNext W = none ∧ aT W = [] then nI 0 else nI 1) ∧ t' = t) := by
    unfold fX1_isMore
    refine ok_gd fw.1 (ok_letv ?_)
    refine ok_rv fw.2.2.2.1 ?_
    refine ok_gd fw.2.2.2.2.2.2.1 (ok_letv ?_)
    refine ok_jn ?_
    rw [e24]
    by_cases c2 : aT W = []
    · refine ok_iff (by rw [c2]; decide) ?_
      refine ok_gd fw.1 ?_
      refine ok_obE (cw_next h hI) ?_
      cases ea : aNext W with
      | none =>
        rw [if_pos ⟨rfl, c2⟩]
        exact ok_some ⟨rfl, rfl⟩
      | some a =>
        rw [if_neg (fun z => by cases z.1)]
        exact ok_some ⟨rfl, rfl⟩
    · refine ok_ift ((nI_lt0 (by omega)).mpr (List.length_pos_iff.mpr c2)) ?_
      rw [if_neg (fun z => c2 z.2)]
      exact ok_some ⟨rfl, rfl⟩
  obtain ⟨r, t', e, rfl, rfl⟩ := key
  exact e
end CNX
