/-! THE COMPONENT: a message dealt with -/
section CDL
variable {P : Nat → Prop} {t t' : cS} {w i j x p : Nat} {A : Nat → Nat} {W : aW} {m : Int32 × Int32}
theorem cw_does5 {tm : Nat} (h : CW P t w A W) (hI : aI W tm) (hi : i < aN W) : fX5_does (A i) t = some (aDoes W i, t) := by
  have fa := h.fa hi
  obtain ⟨l, b, e, hb, ed⟩ := hI.stk hi
  have h5 : (aL W i 0).length ≤ 5 := (hI.act hi).2.1.1.2
  have hlen : (aL W i 0).length = l.length + 1 := by rw [e, List.length_append]; rfl
  obtain ⟨-, a2, -⟩ := h.act hi
  have eb : cI t (ei l.length) (A i + 1) = nI b := a2.2 l.length (nI b, nI 0) (by rw [e, List.getElem?_append_right (Nat.le_refl _), Nat.sub_self]; rfl)
  unfold fX5_does
  have e1 : nI (aL W i 0).length - nI 1 = nI l.length := by rw [hlen, nI_sub (by omega), Nat.add_sub_cancel]
  have ecl : (nI l.length).toNatClampNeg = l.length := nI_clamp (by omega)
  have nneg : ¬ nI l.length < 0 := by show ¬ nI _ < nI 0; exact nI_nlt (Nat.zero_le _) (by omega)
  simp only [gd_tr, letv_e, rv_e, onul_n, onul_s, ob_e, sI_I, sI_K, sI_L, sI_R, sI_n, sI_z, sR_R, sR_K, sR_L, sR_I, sR_n, sR_z, sN_n, sN_z, true_and, and_true, if_true, and_self, cIn, fa, e1, ecl, nneg, not_false_eq_true, a2.1.2.2, eb]
  rw [gd_t (by omega), ed]
/-- what is made for it -/
theorem cw_of {b : Nat} (h : CW P t w A W) (hb : b ≤ 9) : ∃ f t1, fX3_of (w + 4) (nI b) t = some (some f, t1) ∧ Po P w A t t1 W W 1 1 ∧ cK t1 f = 36 + b ∧ (b ≠ 0 → cR t1 901 f = some (w + 4)) := by
  have mk : ∀ k, ∃ f t1, some (some (cn t), sLR t k (w + 4)) = some (some f, t1) ∧ Po P w A t t1 W W 1 1 ∧ cK t1 f = k ∧ cR t1 901 f = some (w + 4) := fun k => by
    have f1 : Fr (fun _ => False) t (sLR t k (w + 4)) := fr_nR (fr_sN h.wf) (Nat.le_refl _)
    refine ⟨cn t, sLR t k (w + 4), rfl, Po.ne h f1 (Nat.le_refl _) (Nat.le_refl _), ?_, ?_⟩
    · show cK (sN t k 0 1) (cn t) = k
      rw [sN_K, if_pos rfl]
    · unfold sLR
      rw [sR_R, if_pos ⟨rfl, rfl⟩]
  have cs : b = 0 ∨ b = 1 ∨ b = 2 ∨ b = 3 ∨ b = 4 ∨ b = 5 ∨ b = 6 ∨ b = 7 ∨ b = 8 ∨ b = 9 := by omega
  rcases cs with rfl | rfl | rfl | rfl | rfl | rfl | rfl | rfl | rfl | rfl
  · refine ⟨266, t, ?_, (Po.rf h).le (by omega) (by omega), h.g.2.1.2.2.2, fun q => absurd rfl q⟩
    show gd (cK t 266 = 36) (some (some 266, t)) = _
    rw [gd_t h.g.2.1.2.2.2]
  · obtain ⟨f, t1, e1, e2, e3, e4⟩ := mk 37
    exact ⟨f, t1, e1, e2, e3, fun _ => e4⟩
  · obtain ⟨f, t1, e1, e2, e3, e4⟩ := mk 38
    exact ⟨f, t1, e1, e2, e3, fun _ => e4⟩
  · obtain ⟨f, t1, e1, e2, e3, e4⟩ := mk 39
    exact ⟨f, t1, e1, e2, e3, fun _ => e4⟩
  · obtain ⟨f, t1, e1, e2, e3, e4⟩ := mk 40
    exact ⟨f, t1, e1, e2, e3, fun _ => e4⟩
  · obtain ⟨f, t1, e1, e2, e3, e4⟩ := mk 41
    exact ⟨f, t1, e1, e2, e3, fun _ => e4⟩
  · obtain ⟨f, t1, e1, e2, e3, e4⟩ := mk 42
    exact ⟨f, t1, e1, e2, e3, fun _ => e4⟩
  · obtain ⟨f, t1, e1, e2, e3, e4⟩ := mk 43
    exact ⟨f, t1, e1, e2, e3, fun _ => e4⟩
  · obtain ⟨f, t1, e1, e2, e3, e4⟩ := mk 44
    exact ⟨f, t1, e1, e2, e3, fun _ => e4⟩
  · obtain ⟨f, t1, e1, e2, e3, e4⟩ := mk 45
    exact ⟨f, t1, e1, e2, e3, fun _ => e4⟩
/-- dealt with: done, or it failed -/
def dlQ (P : Nat → Prop) (w : Nat) (A : Nat → Nat) (t : cS) (W : aW) (i : Nat) (m : Int32 × Int32) : Unit ⊕ Nat → cS → Prop := fun r t' => match r with
  | .inl _ => (aDeal W i m).2 = nI 0 ∧ Po P w A t t' W (aDeal W i m).1 35 228
  | .inr e => Po P w A t t' W W 35 228 ∧ ((aDeal W i m = ((aFails W i (nI 1) 0).1, nI 1) ∧ Fc t' [(nI i, nI 1)] (some e)) ∨ (aDeal W i m = ((aFails W i (nI 3) 0).1, nI 3) ∧ cK t' e = 11) ∨ (aDeal W i m = ((aFails W i (nI 4) 0).1, nI 4) ∧ cK t' e = 12))
theorem ok_zV {α : Type} {f : Option (Unit × cS)} {Q : Unit ⊕ Nat → cS → Prop} {R : Unit → cS → Prop} (h : Ok f R) (k : ∀ t', R () t' → Q (.inl ()) t') : Ok (zV f) Q := by
  unfold zV
  exact ok_ob h (fun _ t' z => ok_some (k t' z))
theorem cw_lamdeals {tm b f : Nat} (h : CW P t w A W) (hI : aI W tm) (hi : i < aN W) (hb : b ≤ 9) (ed : aDoes W i = nI b) (hf : cK t f = 36 + b) (hf9 : b ≠ 0 → cR t 901 f = some (w + 4)) (hx : Mo t x m) (hd : m.2 < nI 1000) (hm1 : m.1 = -1 ∨ ∃ j, j < aN W ∧ m.1 = nI j) (h1 : -99 ≤ m.2.toInt) (h2 : m.2.toInt ≤ 99) : Ok (fD_deals f (some (A i)) (some x) t) (dlQ P w A t W i m) := by
  have hN : aN W ≤ 12 := h.sp.1
  have fw := h.fw
  have h5 : (aL W i 0).length ≤ 5 := (hI.act hi).2.1.1.2
  have ht : (aT W).length ≤ 10 := hI.2.2.2.2.1.1
  unfold fD_deals
  refine ok_rv rfl (ok_rv rfl ?_)
  have cs : b = 0 ∨ b = 1 ∨ b = 2 ∨ b = 3 ∨ b = 4 ∨ b = 5 ∨ b = 6 ∨ b = 7 ∨ b = 8 ∨ b = 9 := by omega
  rw [hf]
  rcases cs with rfl | rfl | rfl | rfl | rfl | rfl | rfl | rfl | rfl | rfl
  · refine ok_ift rfl ?_
    refine ok_zV (α := Unit) (cw_lam0 h hi hx) (fun t' z => ?_)
    show (aDeal W i m).2 = nI 0 ∧ _
    rw [aDeal_0 hd ed]
    exact ⟨rfl, z.le (by omega) (by omega)⟩
  all_goals refine ok_iff (by decide) ?_
  all_goals refine ok_rv (hf9 (by decide)) ?_
  all_goals refine ok_gd fw.2.2.2.2.2.2.2.1 ?_
  · refine ok_ift rfl ?_
    unfold fX3_passes
    refine ok_zV (α := Unit) (cw_passesL (tm := tm) h2 h1 (aN W) 0 FU t (by unfold FU; omega) (by omega) h hI hi hx) (fun t' z => ?_)
    show (aDeal W i m).2 = nI 0 ∧ _
    rw [aDeal_1 hd ed]
    exact ⟨rfl, z.le (by omega) (by omega)⟩
  all_goals refine ok_iff (by decide) ?_
  · refine ok_ift rfl ?_
    refine ok_zV (α := Unit) (cw_echoes h hI hi hx hm1 h2) (fun t' z => ?_)
    show (aDeal W i m).2 = nI 0 ∧ _
    rw [aDeal_2 hd ed]
    exact ⟨rfl, z.le (by omega) (by omega)⟩
  all_goals refine ok_iff (by decide) ?_
  · refine ok_ift rfl ?_
    refine ok_mono (cw_holds h hI hi hx hd) (fun r t' z => ?_)
    cases r with
    | inl u =>
      show (aDeal W i m).2 = nI 0 ∧ _
      rw [aDeal_3 hd ed]
      obtain ⟨z1, z2⟩ := z
      by_cases c : irm m.2 (nI 2) = 0
      · rw [if_pos c] at z2 ⊢
        exact ⟨rfl, z2.le (by omega) (by omega)⟩
      · rw [if_neg c] at z2 ⊢
        rw [if_neg (fun q => z1 ⟨c, q⟩)]
        exact ⟨rfl, z2.le (by omega) (by omega)⟩
    | inr e =>
      obtain ⟨⟨c, c2⟩, z2, z3⟩ := z
      refine ⟨z2.le (by omega) (by omega), Or.inr (Or.inl ⟨?_, z3⟩)⟩
      rw [aDeal_3 hd ed, if_neg c, if_pos c2]
  all_goals refine ok_iff (by decide) ?_
  · refine ok_ift rfl ?_
    refine ok_mono (cw_switches h hi h5 hx) (fun r t' z => ?_)
    cases r with
    | inl u =>
      show (aDeal W i m).2 = nI 0 ∧ _
      rw [aDeal_4 hd ed]
      obtain ⟨z1, z2⟩ := z
      by_cases c : m.2 < 0
      · rw [if_pos c] at z2 ⊢
        exact ⟨rfl, z2.le (by omega) (by omega)⟩
      · rw [if_neg c] at z2 ⊢
        rw [if_neg (fun q => z1 ⟨c, q⟩)]
        exact ⟨rfl, z2.le (by omega) (by omega)⟩
    | inr e =>
      obtain ⟨⟨c, c2⟩, z2, z3⟩ := z
      refine ⟨z2.le (by omega) (by omega), Or.inr (Or.inr ⟨?_, z3⟩)⟩
      rw [aDeal_4 hd ed, if_neg c, if_pos c2]
  all_goals refine ok_iff (by decide) ?_
  · refine ok_ift rfl ?_
    refine ok_mono (cw_risks h hi hx) (fun r t' z => ?_)
    cases r with
    | inl u =>
      show (aDeal W i m).2 = nI 0 ∧ _
      rw [aDeal_5 hd ed]
      obtain ⟨z1, z2⟩ := z
      rw [if_neg z1]
      exact ⟨rfl, z2.le (by omega) (by omega)⟩
    | inr e =>
      obtain ⟨c, z2, z3⟩ := z
      refine ⟨z2.le (by omega) (by omega), Or.inl ⟨?_, z3⟩⟩
      rw [aDeal_5 hd ed, if_pos c]
  all_goals refine ok_iff (by decide) ?_
  · refine ok_ift rfl ?_
    refine ok_zV (α := Unit) (cw_delays h hi ht hx) (fun t' z => ?_)
    show (aDeal W i m).2 = nI 0 ∧ _
    rw [aDeal_6 hd ed]
    exact ⟨rfl, z.le (by omega) (by omega)⟩
  all_goals refine ok_iff (by decide) ?_
  · refine ok_ift rfl ?_
    unfold fX3_fans
    refine ok_zV (α := Unit) (cw_fansL (tm := tm) h2 h1 (aN W) 0 FU W t (by unfold FU; omega) (by omega) h hI hi hx) (fun t' z => ?_)
    show (aDeal W i m).2 = nI 0 ∧ _
    rw [aDeal_7 hd ed]
    exact ⟨rfl, z.le (by omega) (by omega)⟩
  all_goals refine ok_iff (by decide) ?_
  · refine ok_ift rfl ?_
    refine ok_zV (α := Unit) (cw_watches h hI hi hx h1 h2) (fun t' z => ?_)
    show (aDeal W i m).2 = nI 0 ∧ _
    rw [aDeal_8 hd ed]
    exact ⟨rfl, z.le (by omega) (by omega)⟩
  · refine ok_iff (by decide) ?_
    refine ok_gd rfl ?_
    refine ok_zV (α := Unit) (cw_lam1 h hI hi) (fun t' z => ?_)
    show (aDeal W i m).2 = nI 0 ∧ _
    rw [aDeal_9 hd ed]
    exact ⟨rfl, z.le (by omega) (by omega)⟩
end CDL
