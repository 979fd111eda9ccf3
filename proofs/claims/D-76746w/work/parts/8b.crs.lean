/-! THE COMPONENT: the stash comes back; one restarts; numbers -/
section CRS
variable {P : Nat → Prop} {t t' : cS} {w i j x : Nat} {A : Nat → Nat} {W : aW}
/-- a field of the world's object of which CW says nothing -/
theorem CW.free {f : Nat} {y : Int32} (h : CW P t w A W) (hf : f ≠ 7 ∧ f ≠ 8 ∧ f ≠ 9 ∧ f ≠ 10 ∧ f ≠ 11 ∧ f ≠ 13 ∧ f ≠ 15 ∧ f ≠ 19) : CW P (sI t f w y) w A W ∧ Fr P t (sI t f w y) := by
  obtain ⟨f1, f2, f3, f4, f5, f6, f7, f8⟩ := hf
  obtain ⟨⟨a1, a2⟩, ⟨b1, b2, b3, b4, b5, b6, b7, b8⟩, c, d⟩ := h.w1
  have m : cMut (cK t w) = true := by rw [a1]; rfl
  have fr : Fr (fun y => y = w) t (sI t f w y) := fr_sI h.wf rfl m
  have g : ∀ g, f ≠ g → cI (sI t f w y) g w = cI t g w := fun g hg => by rw [sI_I, if_neg (fun z => hg z.1.symm)]
  refine ⟨h.frW fr ⟨rfl, rfl, rfl, rfl, rfl, rfl⟩ ⟨⟨a1, a2⟩, ⟨?_, ?_, ?_, ?_, ?_, ?_, ?_, ?_⟩, c, d.1.st h.wf fr, d.2⟩, fr.mono (fun y _ e => by rw [e]; exact a2)⟩
  · rw [g 7 f1]; exact b1
  · rw [g 8 f2]; exact b2
  · rw [g 9 f3]; exact b3
  · rw [g 10 f4]; exact b4
  · rw [g 11 f5]; exact b5
  · rw [g 13 f6]; exact b6
  · rw [g 15 f7]; exact b7
  · rw [g 19 f8]; exact b8
theorem cw_unstashes {tm : Nat} (h : CW P t w A W) (hI : aI W tm) (hi : i < aN W) : Ok (fX1_unstashes w (some (A i)) t) (fun _ t' => Po P w A t t' W (aBack W i) 0 0) := by
  have fw := h.fw
  have fa := h.fa hi
  have e11 : cI t 11 w = aG W 2 := h.w1.2.1.2.2.2.2.1
  obtain ⟨cs, q1, q2⟩ := h.que hi (k := 1) (by omega)
  obtain ⟨ss, s1, s2⟩ := h.que hi (k := 2) (by omega)
  have lq : cs.length = (aL W i 1).length := by rw [← List.length_map Prod.snd, q2.len]
  have ls : ss.length = (aL W i 2).length := by rw [← List.length_map Prod.snd, s2.len]
  have c1 : (aL W i 1).length ≤ 12 := (hI.act hi).2.2.1.1
  have c2 : (aL W i 2).length ≤ 6 := (hI.act hi).2.2.2.1.1
  unfold fX1_unstashes
  simp only [gd_tr, letv_e, rv_e, onul_n, onul_s, ob_e, sI_I, sI_K, sI_L, sI_R, sI_n, sI_z, sR_R, sR_K, sR_L, sR_I, sR_n, sR_z, sN_n, sN_z, true_and, and_true, if_true, and_self, fw, fa, e11]
  refine ok_ob (qr_ahead (q := A i + 1 + 1) (u := A i + 1 + 2) (m := 12) (by omega) (by omega) q1 s1 h.wf (by omega) (by omega) h.up) (fun r t1 z => ?_)
  obtain ⟨rfl, ⟨D, r1, rD⟩, f1, cost⟩ := z
  have f1' : Fr (Qc (A i + 1 + 1) cs) t t1 := f1.mono (fun y _ z => Or.inl z)
  have hroom : min ss.length (12 - cs.length) = aRoom W i := by unfold aRoom; rw [ls, lq]
  rw [hroom] at rD ⊢
  have v1 : Qv P t1 (A i + 1 + 1) (qMo 1) (qV 1 t1) ((aL W i 2).take (aRoom W i) ++ aL W i 1) := by
    refine ⟨D, r1, ?_⟩
    rw [rD, List.map_take]
    exact Al.app (q2.st (V := fun t => qV 1 t) Vm_st h.wf f1) (Al.take _ (s2.st (V := fun t => qV 2 t) Vm_st h.wf f1))
  have w1 := h.frQ hi (k := 1) (by omega) q1 f1' v1
  have k1 := h.k2 q1 f1'
  have fw1 := w1.fw
  have fa1 := w1.fa (i := i) hi
  have p2 := Po.g2 (y := aG W 2 + (nI ss.length - nI (aRoom W i))) w1
  simp only [gd_tr, letv_e, rv_e, onul_n, onul_s, ob_e, sI_I, sI_K, sI_L, sI_R, sI_n, sI_z, sR_R, sR_K, sR_L, sR_I, sR_n, sR_z, sN_n, sN_z, true_and, and_true, if_true, and_self, fw1, fa1]
  have w2 := p2.1
  obtain ⟨es, u1, u2⟩ := w2.que (i := i) hi (k := 2) (by omega)
  refine ok_ob (qr_empties u1 w2.wf) (fun _ t3 z => ?_)
  obtain ⟨r3, f3, e3, e4⟩ := z
  have f3' : Fr (Qc (A i + 1 + 2) es) _ t3 := f3.mono (fun y _ z => Or.inl z)
  have w3 := w2.frQ (i := i) hi (k := 2) (by omega) u1 f3' (xs := []) ⟨[], r3, trivial⟩
  have k3 := w2.k2 u1 f3'
  have eW : uL (uG (uL W i 1 ((aL W i 2).take (aRoom W i) ++ aL W i 1)) 2 (aG W 2 + (nI ss.length - nI (aRoom W i)))) i 2 [] = aBack W i := by
    rw [ls]
    rfl
  rw [eW] at w3
  have hPh : Ph (aBack W i) + Pw W i = Ph W + 2 * (aL W i 3).length := by
    have e1 : Ph (aBack W i) = Ph (uL W i 2 []) := Ph_eq rfl (fun a ha => by
      refine ⟨?_, ?_⟩
      · show aL (uL (uL W i 1 _) i 2 []) a 2 = aL (uL W i 2 []) a 2
        rw [uL_L, uL_L, uL_L, if_neg (show ¬ (a = i ∧ 2 = 1) by omega)]
      · show aL (uL (uL W i 1 _) i 2 []) a 3 = aL (uL W i 2 []) a 3
        rw [uL_L, uL_L, uL_L, if_neg (by omega), if_neg (by omega), if_neg (by omega)])
    have z1 := Ph_uL (W := W) (i := i) (k := 2) (xs := []) hi
    have z2 : Pw (uL W i 2 []) i = 2 * (aL W i 3).length := by
      unfold Pw
      rw [uL_L, if_pos ⟨rfl, rfl⟩, uL_L, if_neg (by omega), List.length_nil]
      omega
    omega
  have hPw : Pw W i = 34 * (aL W i 2).length + 2 * (aL W i 3).length := rfl
  have e3 : cn t3 = cn t1 := e3
  have e4 : cz t3 = cz t1 := e4
  refine ok_some ⟨w3, (Fr.ofQ q1 f1').then (p2.2.1.then (Fr.ofQ u1 f3')), ⟨k3.1.trans (p2.2.2.1.1.trans k1.1), k3.2.trans (p2.2.2.1.2.trans k1.2)⟩, ?_, ?_⟩
  · by_cases c : ss = []
    · rw [if_pos c] at cost
      rw [cost] at e3
      omega
    · rw [if_neg c] at cost
      have := List.length_pos_iff.mpr c
      omega
  · by_cases c : ss = []
    · rw [if_pos c] at cost
      rw [cost] at e4
      omega
    · rw [if_neg c] at cost
      have := List.length_pos_iff.mpr c
      omega
/-- as Po; which have restarted -/
def Pb (P : Nat → Prop) (w : Nat) (A : Nat → Nat) (t t' : cS) (W W' : aW) (b : Int32) (k s : Nat) : Prop :=
  CW P t' w A W' ∧ Fr P t t' ∧ (cI t' 17 w = cI t 17 w ∧ cI t' 18 w = b) ∧ cn t' + Ph W' ≤ cn t + Ph W + k ∧ cz t' + 3 * Ph W' ≤ cz t + 3 * Ph W + s
theorem cw_restarts {tm : Nat} (h : CW P t w A W) (hI : aI W tm) (hi : i < aN W) : Ok (fX1_restarts w (some (A i)) t) (fun _ t' => Pb P w A t t' W (aRestart W i) (cI t 18 w ||| ishl32 (nI 1) (nI i)) 0 0) := by
  have hN : aN W ≤ 12 := h.sp.1
  unfold fX1_restarts
  refine ok_gd h.fw.1 ?_
  have hch : Ok (fX1_stopsBelow (fX1_stops 13) w (some (A i)) t) (fun _ t' => Po P w A t t' W (aBelow (aStop 13) W i) 0 0) := by
    unfold fX1_stopsBelow
    simp only [gd_tr, letv_e, rv_e, onul_n, onul_s, ob_e, sI_I, sI_K, sI_L, sI_R, sI_n, sI_z, sR_R, sR_K, sR_L, sR_I, sR_n, sR_z, sN_n, sN_z, true_and, and_true, if_true, and_self, h.fw.1, h.fw.2.2.1]
    exact cw_below (aM_stop 13) (aI_stop 13) (cw_stops 13) (aN W) FU W t (by unfold FU; omega) h hI (Nat.le_refl _) hi (by omega) (fun t' z => ok_some z)
  refine ok_ob hch (fun _ t1 p1 => ?_)
  have m1 := aM_below 13 W i
  have i1 := (aI_below hI hi).1
  have ha1 : i < aN (aBelow (aStop 13) W i) := by rw [m1.1]; exact hi
  show Ok _ (fun _ t' => Pb P w A t t' W (aBack (aForget (uF (aBelow (aStop 13) W i) i 6 (nI 0)) i) i) _ 0 0)
  generalize aBelow (aStop 13) W i = W1 at p1 i1 ha1 ⊢
  have c1 := p1.1
  rw [rv_e]
  refine ok_gd (c1.fa ha1).2.2.1 (ok_letv ?_)
  have p2 := Po.a6 (y := nI 0) c1 ha1
  have c2 := p2.1
  have i2 : aI (uF W1 i 6 (nI 0)) tm := i1.setF6
  have ha2 : i < aN (uF W1 i 6 (nI 0)) := ha1
  generalize sI t1 34 (A i) (nI 0) = t2 at p2 c2 ⊢
  generalize uF W1 i 6 (nI 0) = W2 at p2 c2 i2 ha2 ⊢
  have p3 := Po.a0 (n := 1) c2 ha2 (i2.act ha2).2.1.1.1
  have f2 := c2.fa ha2
  refine ok_gd f2.2.2.1 (ok_letv ?_)
  have c3 := p3.1
  have ha3 : i < aN (uL W2 i 0 ((aL W2 i 0).take 1)) := ha2
  generalize sI t2 36 (A i) (nI 1) = t3 at p3 c3 ⊢
  have f3 := c3.fa ha3
  simp only [gd_tr, letv_e, rv_e, onul_n, onul_s, ob_e, sI_I, sI_K, sI_L, sI_R, sI_n, sI_z, sR_R, sR_K, sR_L, sR_I, sR_n, sR_z, sN_n, sN_z, true_and, and_true, if_true, and_self, f3]
  refine ok_ob (cw_empties (k := 4) c3 ha3 (by omega)) (fun _ t4 p4 => ?_)
  have c4 := p4.1
  have ha4 : i < aN (uL (uL W2 i 0 ((aL W2 i 0).take 1)) i 4 []) := ha2
  refine ok_gd c4.fw.1 ?_
  refine ok_ob (cw_untimed c4 ha4 i2.2.2.2.2.1.1) (fun _ t5 p5 => ?_)
  have p5 : Po P w A t4 t5 (uL (uL W2 i 0 ((aL W2 i 0).take 1)) i 4 []) (aForget W2 i) 0 0 := p5
  have c5 := p5.1
  have i5 : aI (aForget W2 i) tm := aI_forget i2
  refine ok_gd c5.fw.1 ?_
  refine ok_ob (cw_unstashes (i := i) c5 i5 ha2) (fun _ t6 p6 => ?_)
  have c6 := p6.1
  have p := p1.trans (p2.trans (p3.trans (p4.trans (p5.trans p6))))
  have ha6 : i < aN (aBack (aForget W2 i) i) := ha2
  have f6 := c6.fa ha6
  simp only [gd_tr, letv_e, rv_e, onul_n, onul_s, ob_e, sI_I, sI_K, sI_L, sI_R, sI_n, sI_z, sR_R, sR_K, sR_L, sR_I, sR_n, sR_z, sN_n, sN_z, true_and, and_true, if_true, and_self, c6.fw.1, f6]
  obtain ⟨g1, g2⟩ := c6.free (f := 18) (y := cI t6 18 w ||| ishl32 (nI 1) (nI i)) (by decide)
  obtain ⟨x1, x2, x3, x4, x5⟩ := p
  refine ok_some ⟨g1, x2.then g2, ⟨?_, ?_⟩, x4, x5⟩
  · rw [sI_I, if_neg (by omega)]; exact x3.1
  · rw [sI_I, if_pos ⟨rfl, rfl⟩, x3.2]
/-- a number as an object -/
theorem c_valueOf {n : Nat} (hw : cWf t) (hg : cG t) (hn : n < 2 ^ 30) : ∃ x t1, fJ5_valueOf (nI n) t = some (some x, t1) ∧ Fr (fun _ => False) t t1 ∧ Vi t1 x (nI n, nI 0) ∧ cn t1 ≤ cn t + 1 ∧ cz t1 ≤ cz t + 1 := by
  obtain ⟨⟨g1, g2, g3⟩, -, -, g4⟩ := hg
  unfold fJ5_valueOf
  simp only [jn]
  have e1 : ¬ nI n < (-128 : Int32) := fun z => by
    have := i_lt.mp z
    rw [nI_i (by omega)] at this
    have e : (-128 : Int32).toInt = -128 := by decide
    omega
  rw [if_neg e1]
  by_cases c : n ≤ 127
  · rw [if_neg (nI_nlt c (by omega))]
    obtain ⟨k1, k2, k3⟩ := g3 (n + 128) (by omega)
    have ei : (nI n + nI 128).toNatClampNeg = n + 128 := by rw [nI_add, nI_clamp (by omega)]
    have en : ¬ (nI n + nI 128 < 0) := by
      rw [nI_add]
      show ¬ nI (n + 128) < nI 0
      exact nI_nlt (Nat.zero_le _) (by omega)
    refine ⟨n + 128, t, ?_, Fr.rf hw, ⟨k2, ?_⟩, Nat.le_succ _, Nat.le_succ _⟩
    · simp only [gd_tr, letv_e, rv_e, onul_n, onul_s, ob_e, sI_I, sI_K, sI_L, sI_R, sI_n, sI_z, sR_R, sR_K, sR_L, sR_I, sR_n, sR_z, sN_n, sN_z, true_and, and_true, if_true, and_self, cIn, g1, g2, ei, en, k1, not_false_eq_true]
      rw [gd_t (by omega)]
    · rw [k3, nI_sub (by omega), Nat.add_sub_cancel]
  · rw [if_pos (nI_lt (by omega) (by omega))]
    have k17 : cK (sN t 17 0 1) (cn t) = 17 := by rw [sN_K, if_pos rfl]
    refine ⟨cn t, sI (sN t 17 0 1) 69 (cn t) (nI n), ?_, fr_nI (fr_sN hw) (Nat.le_refl _), ⟨k17, by rw [sI_I, if_pos ⟨rfl, rfl⟩]⟩, Nat.le_refl _, Nat.le_refl _⟩
    unfold fJ5_init fJ4_init
    simp only [gd_tr, letv_e, rv_e, onul_n, onul_s, ob_e, sI_I, sI_K, sI_L, sI_R, sI_n, sI_z, sR_R, sR_K, sR_L, sR_I, sR_n, sR_z, sN_n, sN_z, true_and, and_true, if_true, and_self, k17]
    rw [gd_t g4]
    rfl
end CRS
