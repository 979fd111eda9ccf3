/-! THE COMPONENT: the stash, the stack, the risk -/
section CDE3
variable {P : Nat → Prop} {t t' : cS} {w i j x p : Nat} {A : Nat → Nat} {W : aW} {m : Int32 × Int32}
/-- done, or an exception -/
def oQ (P : Nat → Prop) (w : Nat) (A : Nat → Nat) (t : cS) (W W' : aW) (bad : Prop) (C : cS → Nat → Prop) (k s : Nat) : Unit ⊕ Nat → cS → Prop := fun r t' => match r with
  | .inl _ => ¬ bad ∧ Po P w A t t' W W' k s
  | .inr e => bad ∧ Po P w A t t' W W k s ∧ C t' e
/-- an exception without a word: full -/
theorem new_full {k : Nat} (hw : cWf t) (hg : cG t) (hk : k = 11 ∨ k = 12) : ∃ t1, fJ0_init (cn t) (sN t k 0 6) = some ((), t1) ∧ Fr (fun _ => False) t t1 ∧ cK t1 (cn t) = k ∧ cn t1 = cn t + 1 ∧ cz t1 = cz t + 6 := by
  obtain ⟨-, -, g8, g9⟩ := hg
  have kk : cK (sN t k 0 6) (cn t) = k := by rw [sN_K, if_pos rfl]
  have n299 : ¬ (299 = cn t) := by omega
  refine ⟨sR (sR (sR (sN t k 0 6) 51 (cn t) (some (cn t))) 52 (cn t) (cR t 52 299)) 53 (cn t) (cR t 53 299), ?_, fr_nR (fr_nR (fr_nR (fr_sN hw) (Nat.le_refl _)) (Nat.le_refl _)) (Nat.le_refl _), kk, rfl, rfl⟩
  unfold fJ0_init
  rcases hk with e | e
  · subst e
    simp [gd_tr, letv_e, ob_e, sR_K, kk, sR_R, sN_R, n299]
  · subst e
    simp [gd_tr, letv_e, ob_e, sR_K, kk, sR_R, sN_R, n299]
theorem cw_holds {tm : Nat} (h : CW P t w A W) (hI : aI W tm) (hi : i < aN W) (hx : Mo t x m) (hm : m.2 < nI 1000) : Ok (fX3_holds (w + 4) (some (A i)) (some x) t) (oQ P w A t W (if irm m.2 (nI 2) = 0 then aBack W i else uL W i 2 (aL W i 2 ++ [m])) (¬ irm m.2 (nI 2) = 0 ∧ (aL W i 2).length = 6) (fun t' e => cK t' e = 11) 35 105) := by
  have fw := h.fw
  have fa := h.fa hi
  obtain ⟨x1, x2, x3⟩ := hx
  unfold fX3_holds
  simp only [gd_tr, letv_e, rv_e, onul_n, onul_s, ob_e, sI_I, sI_K, sI_L, sI_R, sI_n, sI_z, sR_R, sR_K, sR_L, sR_I, sR_n, sR_z, sN_n, sN_z, true_and, and_true, if_true, and_self, fw, fa, x1, x3]
  by_cases c : irm m.2 (nI 2) = 0
  · refine ok_ift c ?_
    refine ok_ob (cw_unstashes h hI hi) (fun _ t1 z => ok_some ?_)
    refine ⟨fun q => q.1 c, ?_⟩
    rw [if_pos c]
    exact z.le (by omega) (by omega)
  · refine ok_iff c ?_
    obtain ⟨cs, q1, q2⟩ := h.que hi (k := 2) (by omega)
    have lq : cs.length = (aL W i 2).length := by rw [← List.length_map Prod.snd, q2.len]
    have c2 : (aL W i 2).length ≤ 6 := (hI.act hi).2.2.2.1.1
    have hst : Ok (fX5_stashes (A i) (some x) t) (oQ P w A t W (uL W i 2 (aL W i 2 ++ [m])) ((aL W i 2).length = 6) (fun t' e => cK t' e = 11) 35 105) := by
      unfold fX5_stashes
      simp only [gd_tr, letv_e, rv_e, onul_n, onul_s, ob_e, sI_I, sI_K, sI_L, sI_R, sI_n, sI_z, sR_R, sR_K, sR_L, sR_I, sR_n, sR_z, sN_n, sN_z, true_and, and_true, if_true, and_self, fa]
      refine ok_ob (qr_puts (m := 6) (x := x) q1 h.wf (by omega) (by omega) (h.up _ (Nat.le_refl _))) (fun r t1 k => ?_)
      by_cases c3 : cs.length = 6
      · rw [if_pos c3] at k
        obtain ⟨rfl, rfl⟩ := k
        refine ok_ift rfl ?_
        obtain ⟨t2, d1, d2, d3, d4, d5⟩ := new_full (k := 11) h.wf h.g (Or.inl rfl)
        have d1' : fX13_init (cn t1) (sN t1 11 0 6) = some ((), t2) := by
          unfold fX13_init fX12_init fJ1_init
          rw [d1]
          rfl
        refine ok_letv ?_
        refine ok_obE d1' ?_
        refine ok_gd d3 ?_
        exact ok_some ⟨by omega, (Po.ne h d2 (Nat.le_of_eq d4) (Nat.le_of_eq d5)).le (by omega) (by omega), d3⟩
      · rw [if_neg c3] at k
        obtain ⟨rfl, r1, f1, e1, e2⟩ := k
        refine ok_iff (by decide) ?_
        refine ok_some ⟨by omega, Po.qk h hi (by omega) q1 f1 ⟨_, r1, ?_⟩ ?_ ?_⟩
        · rw [List.map_append]
          exact Al.app (l' := [x]) (m' := [m]) ⟨Vm_st _ _ _ _ _ h.wf f1 (Or.inl ⟨x1, x2, x3, hm⟩), trivial⟩ (q2.st (V := fun t => qV 2 t) Vm_st h.wf f1)
        · unfold Pw
          rw [uL_L, if_pos ⟨rfl, rfl⟩, uL_L, if_neg (by omega), List.length_append]
          show cn t1 + (34 * ((aL W i 2).length + 1) + _) ≤ _
          omega
        · unfold Pw
          rw [uL_L, if_pos ⟨rfl, rfl⟩, uL_L, if_neg (by omega), List.length_append]
          show cz t1 + 3 * (34 * ((aL W i 2).length + 1) + _) ≤ _
          omega
    refine ok_obx hst (fun r t1 z => ?_) (fun e t1 z => ?_)
    · refine ok_some ⟨fun q => z.1 q.2, ?_⟩
      rw [if_neg c]
      exact z.2
    · refine ok_gd z.2.2 ?_
      exact ok_some ⟨⟨c, z.1⟩, z.2.1, z.2.2⟩
theorem cw_risks (h : CW P t w A W) (hi : i < aN W) (hx : Mo t x m) : Ok (fX3_risks (w + 4) (some (A i)) (some x) t) (oQ P w A t W (uF W i 6 m.2) (m.2 < aF W i 6) (fun t' e => Fc t' [(nI i, nI 1)] (some e)) 1 8) := by
  have fa := h.fa hi
  obtain ⟨x1, x2, x3⟩ := hx
  have hal := h.lt fa.2.2.1 (by decide)
  unfold fX3_risks
  simp only [gd_tr, letv_e, rv_e, onul_n, onul_s, ob_e, sI_I, sI_K, sI_L, sI_R, sI_n, sI_z, sR_R, sR_K, sR_L, sR_I, sR_n, sR_z, sN_n, sN_z, true_and, and_true, if_true, and_self, fa, x1, x3]
  by_cases c : m.2 < aF W i 6
  · refine ok_ift c ?_
    have k5 : cK (sN t 10 0 8) (A i) = 5 := by rw [sN_K, if_neg (by omega)]; exact fa.2.2.1
    have e26 : cI (sN t 10 0 8) 26 (A i) = nI i := by rw [sN_I, if_neg (by omega)]; exact fa.2.2.2.1.1
    refine ok_gd k5 ?_
    rw [e26]
    obtain ⟨t1, d1, d2, d3, d4, d5⟩ := new_failure (t := t) (a := nI i) (y := nI 1) (c := none) h.wf h.g
    have d1' : fX11_init (cn t) (nI i) (nI 1) (sN t 10 0 8) = some ((), t1) := by
      unfold fX11_init
      rw [d1]
      rfl
    refine ok_obE d1' ?_
    refine ok_gd d3.1 ?_
    exact ok_some ⟨c, Po.ne h d2 (Nat.le_of_eq d4) (Nat.le_of_eq d5), cn t, rfl, ⟨d3.1, d3.2.1, d3.2.2.1, by rw [d3.2.2.2]; exact fun q => by cases q⟩, Or.inl d3.2.2.2⟩
  · refine ok_iff c ?_
    exact ok_some ⟨c, (Po.a6 h hi).le (by omega) (by omega)⟩
theorem cw_goesBack (h : CW P t w A W) (hi : i < aN W) (h5 : (aL W i 0).length ≤ 5) : Ok (fX5_goesBack (A i) t) (fun _ t' => Po P w A t t' W (uL W i 0 (if 1 < (aL W i 0).length then (aL W i 0).dropLast else aL W i 0)) 0 0) := by
  have fa := h.fa hi
  unfold fX5_goesBack
  simp only [gd_tr, letv_e, rv_e, onul_n, onul_s, ob_e, sI_I, sI_K, sI_L, sI_R, sI_n, sI_z, sR_R, sR_K, sR_L, sR_I, sR_n, sR_z, sN_n, sN_z, true_and, and_true, if_true, and_self, fa]
  by_cases c : 1 < (aL W i 0).length
  · refine ok_ift (nI_lt c (by omega)) ?_
    rw [if_pos c, nI_sub (by omega), List.dropLast_eq_take]
    exact ok_some (Po.a0 h hi (by omega))
  · refine ok_iff (nI_nlt (by omega) (by omega)) ?_
    rw [if_neg c, uL_self]
    exact ok_some (Po.rf h)
theorem cw_becomes {v : Int32} (h : CW P t w A W) (hi : i < aN W) (h5 : (aL W i 0).length ≤ 5) : Ok (fX5_becomes (A i) v t) (oQ P w A t W (uL W i 0 (aL W i 0 ++ [(v, nI 0)])) ((aL W i 0).length = 5) (fun t' e => cK t' e = 12) 4 228) := by
  have fa := h.fa hi
  obtain ⟨a1, a2, a3, a4⟩ := h.act hi
  have eL : cL t (A i + 1) = 5 := a2.1.2.2
  have ecl : (nI (aL W i 0).length).toNatClampNeg = (aL W i 0).length := nI_clamp (by omega)
  have nneg : ¬ nI (aL W i 0).length < 0 := by show ¬ nI _ < nI 0; exact nI_nlt (Nat.zero_le _) (by omega)
  unfold fX5_becomes
  simp only [gd_tr, letv_e, rv_e, onul_n, onul_s, ob_e, sI_I, sI_K, sI_L, sI_R, sI_n, sI_z, sR_R, sR_K, sR_L, sR_I, sR_n, sR_z, sN_n, sN_z, true_and, and_true, if_true, and_self, fa]
  refine ok_gd (by rw [eL]; omega) ?_
  by_cases c : (aL W i 0).length = 5
  · refine ok_iff (fun z => by
      have := z.2
      rw [ecl, eL] at this
      omega) ?_
    have f1 : Fr (fun _ => False) t (sX t 3 222) := fr_sX h.wf (by omega)
    have p1 : Po P w A t (sX t 3 222) W W 3 222 := Po.ne h f1 (Nat.le_refl _) (Nat.le_refl _)
    generalize sX t 3 222 = t1 at p1 ⊢
    obtain ⟨t2, d1, d2, d3, d4, d5⟩ := new_full (k := 12) p1.1.wf p1.1.g (Or.inr rfl)
    have d1' : fX14_init (cn t1) (sN t1 12 0 6) = some ((), t2) := by
      unfold fX14_init fX12_init fJ1_init
      rw [d1]
      rfl
    refine ok_obE d1' ?_
    refine ok_gd d3 ?_
    exact ok_some ⟨c, (p1.trans (Po.ne p1.1 d2 (Nat.le_of_eq d4) (Nat.le_of_eq d5))).le (by omega) (by omega), d3⟩
  · refine ok_ift ⟨nneg, by rw [ecl, eL]; omega⟩ ?_
    rw [ecl]
    have m20 : cMut (cK t (A i + 1)) = true := by rw [a2.1.1]; rfl
    have f1 : Fr (fun y => y = A i + 1) t (sI t (ei (aL W i 0).length) (A i + 1) v) := fr_sI h.wf rfl m20
    have c1 : CW P (sI t (ei (aL W i 0).length) (A i + 1) v) w A W := by
      refine h.frK hi f1 ⟨rfl, rfl, rfl, rfl, rfl, rfl, fun _ _ => rfl, fun _ _ => rfl⟩ rfl ⟨rfl, rfl⟩ (fun j q hq => ?_)
      have hlt := (List.getElem?_eq_some_iff.mp hq).1
      rw [sI_I, if_neg (fun z => by have := z.1; unfold ei at this; omega)]
      exact a2.2 j q hq
    have p1 : Po P w A t (sI t (ei (aL W i 0).length) (A i + 1) v) W W 0 0 := ⟨c1, f1.mono (fun y _ e => by rw [e]; exact a2.1.2.1), h.kx a2.1.1 (by decide) f1, Nat.le_refl _, Nat.le_refl _⟩
    have enew : cI (sI t (ei (aL W i 0).length) (A i + 1) v) (ei (aL W i 0).length) (A i + 1) = v := by rw [sI_I, if_pos ⟨rfl, rfl⟩]
    have e36 : cI (sI t (ei (aL W i 0).length) (A i + 1) v) 36 (A i) = nI (aL W i 0).length := (c1.fa hi).2.2.2.1.2.2.2.2.2.2.2.2
    generalize hs : sI t (ei (aL W i 0).length) (A i + 1) v = t1 at c1 p1 enew e36
    rw [if_neg (fun z => by have := z.2; omega), nI_add]
    have e0 : aL (uL W i 0 (aL W i 0 ++ [(v, nI 0)])) i 0 = aL W i 0 ++ [(v, nI 0)] := by rw [uL_L, if_pos ⟨rfl, rfl⟩]
    have p2 : Po P w A t1 (sI t1 36 (A i) (nI ((aL W i 0).length + 1))) W (uL W i 0 (aL W i 0 ++ [(v, nI 0)])) 0 0 := by
      obtain ⟨⟨k1, k2⟩, ⟨b1, b2, b3, b4, b5, b6, b7, b8, b9⟩, cc⟩ := (c1.act hi).1
      have g : ∀ f, f ≠ 36 → cI (sI t1 36 (A i) (nI ((aL W i 0).length + 1))) f (A i) = cI t1 f (A i) := fun f hf => by rw [sI_I, if_neg (fun z => hf z.1)]
      refine cw_set c1 hi ⟨rfl, rfl, rfl, rfl, rfl, fun j hj => ⟨rfl, funext fun f => by rw [uL_L, if_neg (fun z => hj z.1)]⟩, fun k hk => by rw [uL_L, if_neg (fun z => hk z.2)]⟩ ⟨⟨k1, k2⟩, ⟨?_, ?_, ?_, ?_, ?_, ?_, ?_, ?_, ?_⟩, cc⟩ (fun j q hq => ?_)
      · rw [g 26 (by decide)]; exact b1
      · rw [g 27 (by decide)]; exact b2
      · rw [g 28 (by decide)]; exact b3
      · rw [g 29 (by decide)]; exact b4
      · rw [g 31 (by decide)]; exact b5
      · rw [g 32 (by decide)]; exact b6
      · rw [g 33 (by decide)]; exact b7
      · rw [g 34 (by decide)]; exact b8
      · rw [sI_I, if_pos ⟨rfl, rfl⟩, e0, List.length_append]; rfl
      · rw [e0] at hq
        have hlt := (List.getElem?_eq_some_iff.mp hq).1
        rw [List.length_append] at hlt
        have hlt : j < (aL W i 0).length + 1 := hlt
        by_cases cj : j < (aL W i 0).length
        · rw [List.getElem?_append_left cj] at hq
          exact (c1.act hi).2.1.2 j q hq
        · have ej : j = (aL W i 0).length := by omega
          subst ej
          rw [List.getElem?_append_right (Nat.le_refl _), Nat.sub_self] at hq
          cases hq
          exact enew
    exact ok_some ⟨c, (p1.trans p2).le (by omega) (by omega)⟩
end CDE3
