/-! the causes are no one else's -/
section UCS
variable {c : List (Int32 × Int32)}
theorem uC_sends (W : aW) (a : Nat) (m : Int32 × Int32) : aSends (uC W c) a m = ((aSends W a m).1, uC (aSends W a m).2 c) := by
  unfold aSends
  show (if aF W a 5 = nI 1 ∧ (aL W a 1).length < 12 then _ else _) = _
  split <;> rfl
theorem uC_told {m : Int32 × Int32} : ∀ (ws : List (Int32 × Int32)) (W : aW), aTold m ws (uC W c) = uC (aTold m ws W) c
  | [], _ => rfl
  | q :: ws, W => by
    show aTold m ws (aSends (uC W c) q.1.toNatClampNeg m).2 = uC (aTold m ws (aSends W q.1.toNatClampNeg m).2) c
    rw [uC_sends]
    exact uC_told ws _
theorem uC_gone (W : aW) (a : Nat) : aGone (uC W c) a = uC (aGone W a) c := by
  show aTold (-1, nI 1000 + nI a) (aL (aStopped W a) a 3) (uC (uL (aStopped W a) a 3 []) c) = uC (aTold (-1, nI 1000 + nI a) (aL (aStopped W a) a 3) (uL (aStopped W a) a 3 [])) c
  exact uC_told _ _
theorem uC_belowN {f : aW → Nat → aW} (hf : ∀ W a, f (uC W c) a = uC (f W a) c) (a : Nat) : ∀ (i : Nat) (W : aW), aBelowN f a i (uC W c) = uC (aBelowN f a i W) c
  | 0, _ => rfl
  | i + 1, W => by
    show aBelowN f a i (if aF W i 0 = nI a ∧ aF W i 5 = nI 1 then f (uC W c) i else uC W c) = uC (aBelowN f a i (if aF W i 0 = nI a ∧ aF W i 5 = nI 1 then f W i else W)) c
    split
    · rw [hf]; exact uC_belowN hf a i _
    · exact uC_belowN hf a i _
theorem uC_stop : ∀ (n : Nat) (W : aW) (a : Nat), aStop n (uC W c) a = uC (aStop n W a) c
  | 0, _, _ => rfl
  | n + 1, W, a => by
    show aGone (aBelow (aStop n) (uC W c) a) a = uC (aGone (aBelow (aStop n) W a) a) c
    rw [← uC_gone]
    exact congrArg (fun z => aGone z a) (uC_belowN (uC_stop n) a (aN W) W)
theorem uC_restart (W : aW) (a : Nat) : aRestart (uC W c) a = uC (aRestart W a) c := by
  show aBack (aForget (uF (aBelowN (aStop 13) a (aN W) (uC W c)) a 6 (nI 0)) a) a = _
  rw [uC_belowN (uC_stop 13)]
  rfl
theorem uC_restN {p one : Nat} {st : Int32} : ∀ (k i : Nat) (W : aW) (b : Int32), aRestN p one st k i (uC W c) b = (uC (aRestN p one st k i W b).1 c, (aRestN p one st k i W b).2)
  | 0, _, _, _ => rfl
  | k + 1, i, W, b => by
    by_cases h : (i = one ∨ st = nI 1 ∨ (st = nI 2 ∧ one < i)) ∧ aF W i 0 = nI p ∧ aF W i 5 = nI 1
    · have e1 : aRestN p one st (k + 1) i (uC W c) b = aRestN p one st k (i + 1) (aRestart (uC W c) i) (b ||| ishl32 (nI 1) (nI i)) := if_pos h
      have e2 : aRestN p one st (k + 1) i W b = aRestN p one st k (i + 1) (aRestart W i) (b ||| ishl32 (nI 1) (nI i)) := if_pos h
      rw [e1, e2, uC_restart]
      exact uC_restN k (i + 1) _ _
    · have e1 : aRestN p one st (k + 1) i (uC W c) b = aRestN p one st k (i + 1) (uC W c) b := if_neg h
      have e2 : aRestN p one st (k + 1) i W b = aRestN p one st k (i + 1) W b := if_neg h
      rw [e1, e2]
      exact uC_restN k (i + 1) _ _
theorem uC_failsO (W : aW) (one : Nat) (b : Int32) : aFailsO (uC W c) one b = (uC (aFailsO W one b).1 c, (aFailsO W one b).2) := by
  show (if aF W one 0 < 0 then (aStop 13 (uC W c) one, b) else aRestN (aPar W one) one (aF W (aPar W one) 2) (aN W) 0 (uC W c) b) = _
  unfold aFailsO
  split
  · rw [uC_stop]
  · exact uC_restN _ _ _ _
end UCS
section CFA
variable {P : Nat → Prop} {t t' : cS} {w i j x p : Nat} {A : Nat → Nat} {W : aW}
/-- which rule -/
theorem is_rule {st : Int32} {one i : Nat} (hg : cG t) (hst : st = nI 0 ∨ st = nI 1 ∨ st = nI 2) (h1 : one < 12) (h2 : i < 12) : ∃ b : Bool, fD_restarts (sid st) (nI one) (nI i) t = some (zb b, t) ∧ (b = true ↔ (i = one ∨ st = nI 1 ∨ (st = nI 2 ∧ one < i))) := by
  obtain ⟨-, ⟨g1, g2, g3, -⟩, -⟩ := hg
  rcases hst with e | e | e
  · subst e
    have es : sid (nI 0) = 260 := rfl
    rw [es]
    refine ⟨decide (i = one), ?_, ?_⟩
    · unfold fD_restarts fX0_lambda_strategyOf_0
      rw [if_pos g1]
      by_cases c : i = one
      · rw [if_pos (by rw [c]), decide_eq_true c]; rfl
      · rw [if_neg (nI_ne c (by omega) (by omega)), decide_eq_false c]; rfl
    · rw [decide_eq_true_iff]
      exact ⟨fun z => Or.inl z, fun z => by
        rcases z with z | z | z
        · exact z
        · exact absurd z (by decide)
        · exact absurd z.1 (by decide)⟩
  · subst e
    have es : sid (nI 1) = 261 := rfl
    rw [es]
    refine ⟨true, ?_, iff_of_true rfl (Or.inr (Or.inl rfl))⟩
    unfold fD_restarts fX0_lambda_strategyOf_1
    rw [if_neg (by rw [g2]; decide), if_pos g2]; rfl
  · subst e
    have es : sid (nI 2) = 262 := rfl
    rw [es]
    refine ⟨decide (one ≤ i), ?_, ?_⟩
    · unfold fD_restarts fX0_lambda_strategyOf_2
      rw [if_neg (by rw [g3]; decide), if_neg (by rw [g3]; decide), gd_t g3]
      by_cases c : one ≤ i
      · rw [if_neg (nI_nlt c (by omega)), decide_eq_true c]; rfl
      · rw [if_pos (nI_lt (by omega) (by omega)), decide_eq_false c]; rfl
    · rw [decide_eq_true_iff]
      refine ⟨fun z => ?_, fun z => ?_⟩
      · by_cases c : i = one
        · exact Or.inl c
        · exact Or.inr (Or.inr ⟨rfl, by omega⟩)
      · rcases z with z | z | z
        · omega
        · exact absurd z (by decide)
        · omega
theorem cw_h74 {tm one : Nat} {st : Int32} {kx : cS → Option ((Unit ⊕ Nat) × cS)} {Q : Unit ⊕ Nat → cS → Prop} (hst : st = nI 0 ∨ st = nI 1 ∨ st = nI 2) : ∀ (k i fuel : Nat) (W : aW) (t : cS), k < fuel → i + k = aN W → CW P t w A W → aI W tm → p < aN W → one < aN W → aF W p 2 = st →
    (∀ t' : cS, Pb P w A t t' W (aRestN p one st k i W (cI t 18 w)).1 (aRestN p one st k i W (cI t 18 w)).2 0 0 → Ok (kx t') Q) → Ok (fX1_handles_L74 w (A one) (A p) kx fuel (nI i) t) Q := by
  intro k
  induction k with
  | zero =>
    intro i fuel W t hf hi h hI hp ho hs k
    obtain ⟨fuel, rfl⟩ : ∃ n, fuel = n + 1 := ⟨fuel - 1, by omega⟩
    have hN : aN W ≤ 12 := h.sp.1
    rw [fX1_handles_L74]
    simp only [gd_tr, letv_e, rv_e, onul_n, onul_s, ob_e, sI_I, sI_K, sI_L, sI_R, sI_n, sI_z, sR_R, sR_K, sR_L, sR_I, sR_n, sR_z, sN_n, sN_z, true_and, and_true, if_true, and_self, h.fw.1, h.fw.2.2.1]
    refine ok_iff (nI_nlt (by omega) (by omega)) ?_
    have z := Po.rf h
    exact k t ⟨z.1, z.2.1, z.2.2.1, z.2.2.2⟩
  | succ n ih =>
    intro i fuel W t hf hi h hI hp ho hs k
    obtain ⟨fuel, rfl⟩ : ∃ n, fuel = n + 1 := ⟨fuel - 1, by omega⟩
    have hN : aN W ≤ 12 := h.sp.1
    have hi2 : i < aN W := by omega
    have fw := h.fw
    have fi := h.fa hi2
    have fp := h.fa hp
    have fo := h.fa ho
    rw [fX1_handles_L74]
    simp only [gd_tr, letv_e, rv_e, onul_n, onul_s, ob_e, sI_I, sI_K, sI_L, sI_R, sI_n, sI_z, sR_R, sR_K, sR_L, sR_I, sR_n, sR_z, sN_n, sN_z, true_and, and_true, if_true, and_self, cIn, fw, fi, fp, fo, not_false_eq_true, jn]
    refine ok_ift (nI_lt hi2 (by omega)) ?_
    unfold aRestN at k
    have no : (∀ t' : cS, Pb P w A t t' W (aRestN p one st n (i + 1) W (cI t 18 w)).1 (aRestN p one st n (i + 1) W (cI t 18 w)).2 0 0 → Ok (kx t') Q) → Ok (fX1_handles_L74 w (A one) (A p) kx fuel (nI i + nI 1) t) Q := fun k => by
      rw [nI_add]
      exact ih (i + 1) fuel W t (by omega) (by omega) h hI hp ho hs k
    by_cases c0 : aF W i 0 = nI p
    · refine ok_ift c0 ?_
      rcases hI.live hi2 with c5 | c5
      · refine ok_ift (by rw [c5]; rfl) ?_
        rw [if_neg (fun z => by rw [c5] at z; exact absurd z.2.2 (by decide))] at k
        exact no k
      · refine ok_iff (by rw [c5]; decide) ?_
        obtain ⟨b, hb, hbi⟩ := is_rule (t := t) (one := one) (i := i) h.g hst (by omega) (by omega)
        rw [hs]
        refine ok_obE hb ?_
        cases b with
        | false =>
          refine ok_ift rfl ?_
          rw [if_neg (fun z => Bool.false_ne_true (hbi.mpr z.1))] at k
          exact no k
        | true =>
          refine ok_iff (by decide) ?_
          rw [if_pos ⟨hbi.mp rfl, c0, c5⟩] at k
          simp only [gd_tr, letv_e, rv_e, onul_n, onul_s, ob_e, sI_I, sI_K, sI_L, sI_R, sI_n, sI_z, sR_R, sR_K, sR_L, sR_I, sR_n, sR_z, sN_n, sN_z, true_and, and_true, if_true, and_self, cIn, fw, fi, not_false_eq_true]
          refine ok_ob (cw_restarts h hI hi2) (fun _ t1 z => ?_)
          rw [nI_add]
          obtain ⟨z1, z2, z3, z4, z5⟩ := z
          have m : aM W (aRestart W i) := aM_restart
          refine ih (i + 1) fuel (aRestart W i) t1 (by omega) (by rw [m.1]; omega) z1 (aI_restart hI hi2) (by rw [m.1]; exact hp) (by rw [m.1]; exact ho) (by rw [m.2.1 p 2 (by decide)]; exact hs) (fun t' y => k t' ?_)
          rw [z3.2] at y
          obtain ⟨y1, y2, y3, y4, y5⟩ := y
          exact ⟨y1, z2.then y2, ⟨y3.1.trans z3.1, y3.2⟩, by omega, by omega⟩
    · refine ok_iff c0 ?_
      rw [if_neg (fun z => c0 z.2.1)] at k
      exact no k
/-- what one level up does: done, or a failure of its own -/
def hQ (P : Nat → Prop) (w : Nat) (A : Nat → Nat) (t : cS) (W : aW) (one e : Nat) : Unit ⊕ Nat → cS → Prop := fun r t' => match r with
  | .inl _ => (aF W one 0 < 0 ∧ Pb P w A t t' W (aStop 13 W one) (cI t 18 w) 0 0) ∨ (¬ aF W one 0 < 0 ∧ ¬ aF W (aPar W one) 3 < nI ((aKept W (aPar W one)).length + 1) ∧ Pb P w A t t' W (aRestN (aPar W one) one (aF W (aPar W one) 2) (aN W) 0 (aNote W (aPar W one)) (cI t 18 w)).1 (aRestN (aPar W one) one (aF W (aPar W one) 2) (aN W) 0 (aNote W (aPar W one)) (cI t 18 w)).2 3 6)
  | .inr e' => ¬ aF W one 0 < 0 ∧ aF W (aPar W one) 3 < nI ((aKept W (aPar W one)).length + 1) ∧ Po P w A t t' W (aNote W (aPar W one)) 4 14 ∧ (cK t' e' = 10 ∧ cI t' 57 e' = nI (aPar W one) ∧ cI t' 58 e' = nI 9 ∧ cR t' 51 e' = some e) ∧ e < e'
theorem cw_handles {tm one e : Nat} (h : CW P t w A W) (hI : aI W tm) (ho : one < aN W) (hl : aF W one 5 = nI 1) (h9 : aI9 W one) (he : cK t e = 10 ∧ cI t 57 e = nI one) : Ok (fX1_handles w (some e) t) (hQ P w A t W one e) := by
  have hN : aN W ≤ 12 := h.sp.1
  have fw := h.fw
  have fo := h.fa ho
  have e10 : cI t 10 w = aG W 0 := h.w1.2.1.2.2.2.1
  unfold fX1_handles
  simp only [gd_tr, letv_e, rv_e, onul_n, onul_s, ob_e, sI_I, sI_K, sI_L, sI_R, sI_n, sI_z, sR_R, sR_K, sR_L, sR_I, sR_n, sR_z, sN_n, sN_z, true_and, and_true, if_true, and_self, cIn, fw, fo, he, not_false_eq_true]
  by_cases c : aF W one 0 < 0
  · refine ok_ift c ?_
    refine ok_ob (cw_stops (tm := tm) 13 W one t h hI ho (by omega)) (fun _ t1 z => ?_)
    obtain ⟨z1, z2, z3, z4, z5⟩ := z
    exact ok_some (show hQ P w A t W one e (.inl _) t1 from Or.inl ⟨c, z1, z2, z3, z4, z5⟩)
  · refine ok_iff c ?_
    obtain ⟨hp, ep⟩ := hI.parN ho c
    have lp : aF W (aPar W one) 5 = nI 1 := hI.2.2.1 one ho _ hp ep hl
    have hk : (aL W (aPar W one) 4).length ≤ 9 := h9 _ (by omega) hp
    have hpN : aPar W one < aN W := by omega
    rw [ep]
    generalize hpp : aPar W one = p at hp ep lp hk hpN
    have fp := h.fa hpN
    simp only [gd_tr, letv_e, rv_e, onul_n, onul_s, ob_e, sI_I, sI_K, sI_L, sI_R, sI_n, sI_z, sR_R, sR_K, sR_L, sR_I, sR_n, sR_z, sN_n, sN_z, true_and, and_true, if_true, and_self, cIn, fp, e10, not_false_eq_true]
    refine ok_ob (cw_notes h hI hpN) (fun _ t1 p1 => ?_)
    have c1 := p1.1
    have n1 : p < aN (aNote W p) := hpN
    have e10' : cI t1 10 w = aG W 0 := c1.w1.2.1.2.2.2.1
    have fw1 := c1.fw
    have fp1 := c1.fa n1
    simp only [gd_tr, letv_e, rv_e, onul_n, onul_s, ob_e, sI_I, sI_K, sI_L, sI_R, sI_n, sI_z, sR_R, sR_K, sR_L, sR_I, sR_n, sR_z, sN_n, sN_z, true_and, and_true, if_true, and_self, fw1, fp1, e10']
    have hn4 : aL (aNote W p) p 4 = aKept W p ++ [(aG W 0, nI 0)] := by rw [aNote_L, if_pos rfl]
    have hkl := aKept_le (w := W) (p := p)
    have lim0 : aF (aNote W p) p 4 = aF W p 4 := aMn_note.2.1 p 4
    have i1 := aI_note hI hpN lp hk
    refine ok_ob (cw_failures (tm0 := aG W 0) c1 n1 (by rw [hn4, List.length_append]; show (aKept W p).length + 1 ≤ 12; omega)) (fun r t2 z => ?_)
    obtain ⟨er, p2⟩ := z
    have ecount : ((aL (aNote W p) p 4).filter (fun q => decide (¬ q.1 < aG W 0 - aF (aNote W p) p 4))).length = (aKept W p).length + 1 := by
      rw [hn4, lim0, List.filter_append, List.length_append]
      have e1 : (aKept W p).filter (fun q => decide (¬ q.1 < aG W 0 - aF W p 4)) = aKept W p := by
        unfold aKept
        rw [List.filter_filter]
        congr 1
        funext q
        exact Bool.and_self _
      have e2 : [(aG W 0, nI 0)].filter (fun q => decide (¬ q.1 < aG W 0 - aF W p 4)) = [(aG W 0, nI 0)] := by
        refine List.filter_cons_of_pos (decide_eq_true (fun z => ?_))
        obtain ⟨x, hx, ex⟩ := (hI.act hpN).1.2.2.2.2.1
        have et : aG W 0 = nI tm := hI.2.2.2.1.1
        have ht : tm < 2 ^ 30 := hI.2.2.2.1.2.1
        have z := i_lt.mp z
        rw [et, ex, i_sub (by rw [nI_i (by omega), nI_i (by omega)]; omega) (by rw [nI_i (by omega), nI_i (by omega)]; omega), nI_i (by omega), nI_i (by omega)] at z
        omega
      rw [e1, e2]
      rfl
    rw [ecount] at er
    subst er
    have c2 := p2.1
    have fp2 := c2.fa n1
    have e31 : cI t2 31 (A p) = aF W p 3 := fp2.2.2.2.1.2.2.2.2.1
    simp only [gd_tr, letv_e, rv_e, onul_n, onul_s, ob_e, sI_I, sI_K, sI_L, sI_R, sI_n, sI_z, sR_R, sR_K, sR_L, sR_I, sR_n, sR_z, sN_n, sN_z, true_and, and_true, if_true, and_self, fp2.2.2.1, e31]
    by_cases o : aF W p 3 < nI ((aKept W p).length + 1)
    · refine ok_ift o ?_
      have k5 : cK (sN t2 10 0 8) (A p) = 5 := by
        rw [sN_K, if_neg (fun e => by
          have := c2.lt fp2.2.2.1 (by decide)
          omega)]
        exact fp2.2.2.1
      have e26 : cI (sN t2 10 0 8) 26 (A p) = nI p := by
        rw [sN_I, if_neg (fun e => by
          have := c2.lt fp2.2.2.1 (by decide)
          omega)]
        exact fp2.2.2.2.1.1
      refine ok_gd k5 ?_
      rw [e26]
      obtain ⟨t3, d1, d2, d3, d4, d5⟩ := new_failure (t := t2) (a := nI p) (y := nI 9) (c := some e) c2.wf c2.g
      refine ok_obE d1 ?_
      refine ok_gd d3.1 ?_
      have p3 : Po P w A t2 t3 (aNote W p) (aNote W p) 1 8 := Po.ne c2 d2 (by omega) (by omega)
      refine ok_some ?_
      show hQ P w A t W one e (.inr (cn t2)) t3
      unfold hQ
      rw [hpp]
      refine ⟨c, o, (p1.trans (p2.trans p3)).le (by omega) (by omega), d3, ?_⟩
      have h1 := h.wf.lt (x := e) (by rw [he.1]; decide)
      have h2 := p1.2.1.1.1
      have h3 := p2.2.1.1.1
      omega
    · refine ok_iff o ?_
      have hs : aF (aNote W p) p 2 = aF W p 2 := aMn_note.2.1 p 2
      refine cw_h74 (tm := tm) (st := aF W p 2) (hI.act hpN).1.2.2.1 (aN W) 0 FU (aNote W p) t2 (by unfold FU; omega) (by rw [aMn_note.1]; omega) c2 i1 n1 ho hs (fun t3 z => ?_)
      have e18 : cI t2 18 w = cI t 18 w := p2.2.2.1.2.trans p1.2.2.1.2
      rw [e18] at z
      obtain ⟨z1, z2, z3, z4, z5⟩ := z
      obtain ⟨y1, y2, y3, y4, y5⟩ := p1.trans p2
      refine ok_some ?_
      show hQ P w A t W one e (.inl ()) t3
      unfold hQ
      rw [hpp]
      exact Or.inr ⟨c, o, z1, y2.then z2, ⟨z3.1.trans y3.1, z3.2⟩, by omega, by omega⟩
end CFA
