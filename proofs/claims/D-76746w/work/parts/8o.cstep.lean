/-! THE COMPONENT: a step -/
section CSTEP
variable {P : Nat → Prop} {t t' : cS} {w i j x p : Nat} {A : Nat → Nat} {W : aW} {m : Int32 × Int32} {tm : Nat}
/-- the latest; the time -/
theorem Po.g3 {y : Int32} (h : CW P t w A W) : Po P w A t (sI t 8 w y) W (uG W 3 y) 0 0 := by
  obtain ⟨⟨a1, a2⟩, ⟨b1, b2, b3, b4, b5, b6, b7, b8⟩, c, d⟩ := h.w1
  have m : cMut (cK t w) = true := by rw [a1]; rfl
  have f : Fr (fun y => y = w) t (sI t 8 w y) := fr_sI h.wf rfl m
  have g : ∀ f, f ≠ 8 → cI (sI t 8 w y) f w = cI t f w := fun f hf => by rw [sI_I, if_neg (fun z => hf z.1)]
  refine ⟨h.frW f ⟨rfl, rfl, rfl, rfl, rfl, rfl⟩ ⟨⟨a1, a2⟩, ⟨?_, ?_, ?_, ?_, ?_, ?_, ?_, ?_⟩, c, d.1.st h.wf f, d.2⟩, f.mono (fun y _ e => by rw [e]; exact a2), ⟨g 17 (by decide), g 18 (by decide)⟩, Nat.le_refl _, Nat.le_refl _⟩
  · rw [g 7 (by decide)]; exact b1
  · rw [sI_I, if_pos ⟨rfl, rfl⟩]; rfl
  · rw [g 9 (by decide)]; exact b3
  · rw [g 10 (by decide)]; exact b4
  · rw [g 11 (by decide)]; exact b5
  · rw [g 13 (by decide)]; exact b6
  · rw [g 15 (by decide)]; exact b7
  · rw [g 19 (by decide)]; exact b8
theorem Po.g0 {y : Int32} (h : CW P t w A W) : Po P w A t (sI t 10 w y) W (uG W 0 y) 0 0 := by
  obtain ⟨⟨a1, a2⟩, ⟨b1, b2, b3, b4, b5, b6, b7, b8⟩, c, d⟩ := h.w1
  have m : cMut (cK t w) = true := by rw [a1]; rfl
  have f : Fr (fun y => y = w) t (sI t 10 w y) := fr_sI h.wf rfl m
  have g : ∀ f, f ≠ 10 → cI (sI t 10 w y) f w = cI t f w := fun f hf => by rw [sI_I, if_neg (fun z => hf z.1)]
  refine ⟨h.frW f ⟨rfl, rfl, rfl, rfl, rfl, rfl⟩ ⟨⟨a1, a2⟩, ⟨?_, ?_, ?_, ?_, ?_, ?_, ?_, ?_⟩, c, d.1.st h.wf f, d.2⟩, f.mono (fun y _ e => by rw [e]; exact a2), ⟨g 17 (by decide), g 18 (by decide)⟩, Nat.le_refl _, Nat.le_refl _⟩
  · rw [g 7 (by decide)]; exact b1
  · rw [g 8 (by decide)]; exact b2
  · rw [g 9 (by decide)]; exact b3
  · rw [sI_I, if_pos ⟨rfl, rfl⟩]; rfl
  · rw [g 11 (by decide)]; exact b5
  · rw [g 13 (by decide)]; exact b6
  · rw [g 15 (by decide)]; exact b7
  · rw [g 19 (by decide)]; exact b8
end CSTEP
