/-! THE COMPONENT: a failure -/
section CFB
variable {P : Nat → Prop} {t t' : cS} {w i j x p : Nat} {A : Nat → Nat} {W : aW}
theorem cw_climb {tm : Nat} {kx : Option Nat → cS → Option (Unit × cS)} {Q : Unit → cS → Prop} : ∀ (n fuel : Nat) (W : aW) (one : Nat) (y : Int32) (ch : List (Int32 × Int32)) (e : Nat) (t : cS), n + 1 < fuel → CW P t w A W → aI W tm → one < aN W → aF W one 5 = nI 1 → one < n → aI9 W one → Fc t ((nI one, y) :: ch) (some e) →
    (∀ (t' : cS) (e' : Nat), Pb P w A t t' W (aFailsO (aClimb n W one ((nI one, y) :: ch)).1 (aClimb n W one ((nI one, y) :: ch)).2.1 (cI t 18 w)).1 (aFailsO (aClimb n W one ((nI one, y) :: ch)).1 (aClimb n W one ((nI one, y) :: ch)).2.1 (cI t 18 w)).2 (4 * n) (14 * n) → Fc t' (aClimb n W one ((nI one, y) :: ch)).2.2 (some e') → (aClimb n W one ((nI one, y) :: ch)).2.2 ≠ [] → Ok (kx (some e') t') Q) →
    Ok (fX1_fails_L14 w kx fuel (some e) (nI 1) t) Q := by
  intro n
  induction n with
  | zero => intro fuel W one y ch e t hf h hI ho hl hn; omega
  | succ n ih =>
    intro fuel W one y ch e t hf h hI ho hl hn h9 he k
    have hN : aN W ≤ 12 := h.sp.1
    obtain ⟨fuel, rfl⟩ : ∃ n, fuel = n + 2 := ⟨fuel - 2, by omega⟩
    obtain ⟨e0, ee, ⟨k1, k2, k3, k4⟩, k5⟩ := id he
    cases ee
    rw [fX1_fails_L14]
    refine ok_iff (by decide) ?_
    refine ok_gd h.fw.1 ?_
    refine ok_obx (cw_handles h hI ho hl h9 ⟨k1, k2⟩) (fun r t1 z => ?_) (fun e' t1 z => ?_)
    · rw [fX1_fails_L14]
      refine ok_ift rfl ?_
      rcases z with ⟨c, z⟩ | ⟨c, o, z⟩
      · have eC : aClimb (n + 1) W one ((nI one, y) :: ch) = (W, one, (nI one, y) :: ch) := if_pos c
        rw [eC] at k
        have eO : aFailsO W one (cI t 18 w) = (aStop 13 W one, cI t 18 w) := if_pos c
        refine k t1 e ?_ (he.st h.wf z.2.1) (by simp)
        rw [eO]
        obtain ⟨z1, z2, z3, z4, z5⟩ := z
        show Pb P w A t t1 W (aStop 13 W one) (cI t 18 w) (4 * (n + 1)) (14 * (n + 1))
        exact ⟨z1, z2, z3, by omega, by omega⟩
      · have eC : aClimb (n + 1) W one ((nI one, y) :: ch) = (aNote W (aPar W one), one, (nI one, y) :: ch) := by
          unfold aClimb
          rw [if_neg c, if_neg o]
        rw [eC] at k
        have eO : aFailsO (aNote W (aPar W one)) one (cI t 18 w) = aRestN (aPar W one) one (aF W (aPar W one) 2) (aN W) 0 (aNote W (aPar W one)) (cI t 18 w) := if_neg c
        refine k t1 e ?_ (he.st h.wf z.2.1) (by simp)
        rw [eO]
        obtain ⟨z1, z2, z3, z4, z5⟩ := z
        exact ⟨z1, z2, z3, by omega, by omega⟩
    · obtain ⟨c, o, z, ⟨d1, d2, d3, d4⟩, d5⟩ := z
      refine ok_gd d1 ?_
      obtain ⟨hp, ep⟩ := hI.parN ho c
      have lp : aF W (aPar W one) 5 = nI 1 := hI.2.2.1 one ho _ hp ep hl
      have hk : (aL W (aPar W one) 4).length ≤ 9 := h9 _ (by omega) hp
      have i1 := aI_note hI (p := aPar W one) (by omega) lp hk
      have eC : aClimb (n + 1) W one ((nI one, y) :: ch) = aClimb n (aNote W (aPar W one)) (aPar W one) ((nI (aPar W one), nI 9) :: (nI one, y) :: ch) := by
        show (if aF W one 0 < 0 then _ else if aF W (aPar W one) 3 < nI ((aKept W (aPar W one)).length + 1) then _ else _) = _
        rw [if_neg c, if_pos o]
      rw [eC] at k
      refine ih (fuel + 1) (aNote W (aPar W one)) (aPar W one) (nI 9) ((nI one, y) :: ch) e' t1 (by omega) z.1 i1 (by rw [aMn_note.1]; omega) (by rw [aMn_note.2.1]; exact lp) (by omega) (fun x hx hn => by
        rw [aNote_L, if_neg (by omega)]
        exact h9 x hx (by omega)) ⟨e', rfl, ⟨d1, d2, d3, fun q => by rw [d4] at q; have := Option.some.inj q; omega⟩, by rw [d4]; exact he.st h.wf z.2.1⟩ (fun t2 e2 z2 f2 n2 => k t2 e2 ?_ f2 n2)
      have e18 : cI t1 18 w = cI t 18 w := z.2.2.1.2
      rw [e18] at z2
      obtain ⟨x1, x2, x3, x4, x5⟩ := z
      obtain ⟨y1, y2, y3, y4, y5⟩ := z2
      exact ⟨y1, x2.then y2, ⟨y3.1.trans x3.1, y3.2⟩, by omega, by omega⟩
/-- after a failure -/
def Fp (P : Nat → Prop) (w : Nat) (A : Nat → Nat) (t t' : cS) (W : aW) (R : aW × Int32) (k s : Nat) : Prop :=
  CW P t' w A R.1 ∧ Fr P t t' ∧ (cI t' 17 w = cI t 17 w + nI 1 ∧ cI t' 18 w = R.2) ∧ cn t' + Ph R.1 ≤ cn t + Ph W + k ∧ cz t' + 3 * Ph R.1 ≤ cz t + 3 * Ph W + s
/-- the cause is kept -/
theorem cw_kept {t1 t2 : cS} {e' : Nat} {R : aW × Int32} {ch : List (Int32 × Int32)} {b c : Nat} (g2 : Fr P t t1) (e17 : cI t1 17 w = cI t 17 w + nI 1) (en : cn t1 = cn t) (ez : cz t1 = cz t) (z : Pb P w A t1 t2 W R.1 R.2 b c) (f2 : Fc t2 ch (some e')) (n2 : ch ≠ []) : Fp P w A t (sR t2 16 w (some e')) W (uC R.1 ch, R.2) b c := by
  obtain ⟨z1, z2, ⟨z3, z4⟩, z5, z6⟩ := z
  obtain ⟨⟨a1, a2⟩, b, ⟨c1, c2, c3, c4⟩, d⟩ := z1.w1
  have m : cMut (cK t2 w) = true := by rw [a1]; rfl
  have fr : Fr (fun y => y = w) t2 (sR t2 16 w (some e')) := fr_sR z1.wf rfl m
  have hC : CW P (sR t2 16 w (some e')) w A (uC R.1 ch) := by
    refine z1.frW fr ⟨rfl, rfl, rfl, rfl, rfl, rfl⟩ ⟨⟨a1, a2⟩, b, ⟨?_, ?_, ?_, ?_⟩, ?_, ?_⟩
    · rw [sR_R, if_neg (by omega)]; exact c1
    · rw [sR_R, if_neg (by omega)]; exact c2
    · rw [sR_R, if_neg (by omega)]; exact c3
    · rw [sR_R, if_neg (by omega)]; exact c4
    · rw [sR_R, if_pos ⟨rfl, rfl⟩]
      exact f2.st z1.wf fr
    · exact fun q => absurd q n2
  have eP : Ph (uC R.1 ch) = Ph R.1 := Ph_eq rfl (fun _ _ => ⟨rfl, rfl⟩)
  refine ⟨hC, g2.then (z2.then (fr.mono (fun y _ q => by rw [q]; exact a2))), ⟨z3.trans e17, z4⟩, ?_, ?_⟩
  · show cn t2 + Ph (uC R.1 ch) ≤ _
    omega
  · show cz t2 + 3 * Ph (uC R.1 ch) ≤ _
    omega
theorem cw_failsN {tm a e n : Nat} {why : Int32} (hn : n + 1 < FU ∧ 12 ≤ n) (h : CW P t w A W) (hI : aI W tm) (h9 : aI9 W 12) (ha : a < aN W) (hl : aF W a 5 = nI 1) (he : Fc t [(nI a, why)] (some e)) : Ok (fX1_fails w (some e) t) (fun _ t' => Fp P w A t t' W (aFailsO (uC (aClimb n W a [(nI a, why)]).1 (aClimb n W a [(nI a, why)]).2.2) (aClimb n W a [(nI a, why)]).2.1 (cI t 18 w)) (4 * n) (14 * n)) := by
  have hN : aN W ≤ 12 := h.sp.1
  have fw := h.fw
  unfold fX1_fails
  refine ok_gd fw.1 (ok_letv ?_)
  refine ok_gd fw.1 (ok_letv ?_)
  obtain ⟨g1, g2⟩ := h.free (f := 17) (y := cI t 17 w + nI 1) (by decide)
  have e17 : cI (sI t 17 w (cI t 17 w + nI 1)) 17 w = cI t 17 w + nI 1 := by rw [sI_I, if_pos ⟨rfl, rfl⟩]
  have e18 : cI (sI t 17 w (cI t 17 w + nI 1)) 18 w = cI t 18 w := by rw [sI_I, if_neg (by omega)]
  have he1 : Fc (sI t 17 w (cI t 17 w + nI 1)) [(nI a, why)] (some e) := he.st h.wf g2
  have en : cn (sI t 17 w (cI t 17 w + nI 1)) = cn t := rfl
  have ez : cz (sI t 17 w (cI t 17 w + nI 1)) = cz t := rfl
  generalize sI t 17 w (cI t 17 w + nI 1) = t1 at g1 g2 e17 e18 he1 en ez ⊢
  refine cw_climb (tm := tm) n FU W a why [] e t1 hn.1 g1 hI ha hl (by omega) (fun x hx hn => h9 x hx (by omega)) he1 (fun t2 e' z f2 n2 => ?_)
  rw [uC_failsO, ← e18]
  refine ok_gd z.1.fw.1 (ok_letv ?_)
  exact ok_some (cw_kept g2 e17 en ez z f2 n2)
theorem cw_fails {tm a e : Nat} {why : Int32} (h : CW P t w A W) (hI : aI W tm) (h9 : aI9 W 12) (ha : a < aN W) (hl : aF W a 5 = nI 1) (he : Fc t [(nI a, why)] (some e)) : Ok (fX1_fails w (some e) t) (fun _ t' => Fp P w A t t' W (aFails W a why (cI t 18 w)) 52 182) := cw_failsN (n := 13) ⟨by unfold FU; omega, by omega⟩ h hI h9 ha hl he
end CFB
