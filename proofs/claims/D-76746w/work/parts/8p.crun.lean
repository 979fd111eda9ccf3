/-! THE COMPONENT: a run -/
section CRUN
variable {P : Nat → Prop} {t t' : cS} {w i j x p : Nat} {A : Nat → Nat} {W : aW} {m : Int32 × Int32} {tm : Nat}
theorem cw_ends {x y : Int32} (h : CW P t w A W) (hI : aI W tm) : fX1_ends w x y t = some (if aEnd W = nI 0 then (if x = y then nI 0 else (-1 : Int32)) else aEnd W, t) := by
  have hA : aN W ≤ 12 := h.sp.1
  have fw := h.fw
  have key : Ok (fX1_ends w x y t) (fun r t' => r = (if aEnd W = nI 0 then (if x = y then nI 0 else (-1 : Int32)) else aEnd W) ∧ t' = t) := by
    unfold fX1_ends
    refine ok_gd fw.1 (ok_letv ?_)
    refine ok_jn ?_
    rw [fw.2.2.1]
    have mid : ¬ (0 < aN W ∧ ¬ aF W 0 5 = nI 1) → Ok (gd (cK t w = 2) (ob (fX1_isMore w t) (fun r4 s5 => if r4 = 0 then (some (nI 1, s5)) else if x = y then (some (nI 0, s5)) else (some ((-1 : Int32), s5))))) (fun r t' => r = (if aEnd W = nI 0 then (if x = y then nI 0 else (-1 : Int32)) else aEnd W) ∧ t' = t) := by
      intro c
      refine ok_gd fw.1 ?_
      refine ok_obE (cw_isMore h hI) ?_
      by_cases c2 : aNext W = none ∧ aT W = []
      · have eE : aEnd W = nI 1 := by unfold aEnd; rw [if_neg c, if_pos c2]
        rw [if_pos c2, eE]
        refine ok_ift rfl ?_
        exact ok_some ⟨by rw [if_neg (by decide)], rfl⟩
      · have eE : aEnd W = nI 0 := by unfold aEnd; rw [if_neg c, if_neg c2]
        rw [if_neg c2, eE, if_pos rfl]
        refine ok_iff (by decide) ?_
        by_cases c3 : x = y
        · refine ok_ift c3 ?_
          exact ok_some ⟨by rw [if_pos c3], rfl⟩
        · refine ok_iff c3 ?_
          exact ok_some ⟨by rw [if_neg c3], rfl⟩
    by_cases c : 0 < aN W
    · refine ok_ift ((nI_lt0 (by omega)).mpr c) ?_
      have f0 := h.fa c
      refine ok_gd fw.1 (ok_letv ?_)
      refine ok_rv fw.2.1 ?_
      refine ok_gd ⟨fw.2.2.2.2.2.2.2.2.2, f0.1⟩ (ok_letv ?_)
      refine ok_rv f0.2.1 ?_
      refine ok_gd f0.2.2.1 (ok_letv ?_)
      rw [f0.2.2.2.1.2.2.2.2.2.2.1]
      rcases hI.live c with c5 | c5
      · refine ok_ift (by rw [c5]; rfl) ?_
        have eE : aEnd W = nI 2 := by unfold aEnd; rw [if_pos ⟨c, by rw [c5]; decide⟩]
        rw [eE, if_neg (by decide)]
        exact ok_some ⟨rfl, rfl⟩
      · refine ok_iff (by rw [c5]; decide) ?_
        exact mid (fun q => q.2 c5)
    · refine ok_iff (fun q => c ((nI_lt0 (by omega)).mp q)) ?_
      exact mid (fun q => c q.1)
  obtain ⟨r, t', e, rfl, rfl⟩ := key
  exact e
/-- how it ended -/
theorem Po.g5 {y : Int32} (h : CW P t w A W) : Po P w A t (sI t 19 w y) W (uG W 5 y) 0 0 := by
  obtain ⟨⟨a1, a2⟩, ⟨b1, b2, b3, b4, b5, b6, b7, b8⟩, c, d⟩ := h.w1
  have m : cMut (cK t w) = true := by rw [a1]; rfl
  have f : Fr (fun y => y = w) t (sI t 19 w y) := fr_sI h.wf rfl m
  have g : ∀ f, f ≠ 19 → cI (sI t 19 w y) f w = cI t f w := fun f hf => by rw [sI_I, if_neg (fun z => hf z.1)]
  refine ⟨h.frW f ⟨rfl, rfl, rfl, rfl, rfl, rfl⟩ ⟨⟨a1, a2⟩, ⟨?_, ?_, ?_, ?_, ?_, ?_, ?_, ?_⟩, c, d.1.st h.wf f, d.2⟩, f.mono (fun y _ e => by rw [e]; exact a2), ⟨g 17 (by decide), g 18 (by decide)⟩, Nat.le_refl _, Nat.le_refl _⟩
  · rw [g 7 (by decide)]; exact b1
  · rw [g 8 (by decide)]; exact b2
  · rw [g 9 (by decide)]; exact b3
  · rw [g 10 (by decide)]; exact b4
  · rw [g 11 (by decide)]; exact b5
  · rw [g 13 (by decide)]; exact b6
  · rw [g 15 (by decide)]; exact b7
  · rw [sI_I, if_pos ⟨rfl, rfl⟩]; rfl
end CRUN
