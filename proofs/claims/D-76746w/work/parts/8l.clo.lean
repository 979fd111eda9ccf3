/-! THE COMPONENT: the clock, the log -/
section CLO
variable {P : Nat → Prop} {t t' : cS} {w i j x p : Nat} {A : Nat → Nat} {W W' : aW} {m : Int32 × Int32}
/-- the world's object and its log change -/
theorem CW.frWL (h : CW P t w A W) (f : Fr (fun y => y = w ∨ y = w + 3) t t') (n : aN W' = aN W ∧ aF W' = aF W ∧ aL W' = aL W ∧ aT W' = aT W) (h1 : cW1 P t' w W') (h3 : cW3 P t' w W') : CW P t' w A W' := by
  obtain ⟨nN, nF, nL, nT⟩ := n
  have hw := h.wf
  have k0 : cK t w = 2 := h.w1.1.1
  have k3 : cK t (w + 3) = 20 := h.w3.1.1
  have ne : ∀ {y k : Nat}, cK t y = k → k ≠ 2 → k ≠ 20 → ¬ (y = w ∨ y = w + 3) := fun hk n2 n20 z => by
    rcases z with z | z
    · exact n2 (by rw [← hk, z]; exact k0)
    · exact n20 (by rw [← hk, z]; exact k3)
  have eq : ∀ {y k : Nat}, cK t y = k → k ≠ 0 → ¬ (y = w ∨ y = w + 3) → cEq t t' y := fun hk h0 h2 => f.eq (h.lt hk h0) h2
  have fq : ∀ {α : Type} {q : Nat} {mo : Int32} {V : cS → Nat → α → Prop} {xs : List α}, Vst V → Qv P t q mo (V t) xs → Qv P t' q mo (V t') xs := fun hV hq => by
    obtain ⟨cs, q1, q2⟩ := hq
    exact ⟨cs, q1.fr1 hw f (ne q1.1.1 (by decide) (by decide)) (fun c hc => ne (q1.2.2.2.1.cell c hc).1 (by decide) (by decide)), q2.st hV hw f⟩
  refine ⟨⟨f.1.2, h.g.st hw f, fun y hy => h.up y (Nat.le_trans f.1.1 hy)⟩, by rw [nN]; exact h.sp, h1, by rw [nN]; exact h.w2.eq (eq h.w2.1.1 (by decide) (ne h.w2.1.1 (by decide) (by decide))), h3, h.w4.st hw f, by rw [nT]; exact fq Vt_st h.tm, fun j hj => ?_⟩
  rw [nN] at hj
  rw [nF, nL]
  obtain ⟨a1, a2, a3, a4⟩ := h.act hj
  have := h.sp.2.1 j hj
  exact ⟨a1.eq (eq a1.1.1 (by decide) (ne a1.1.1 (by decide) (by decide))), a2.eq (eq a2.1.1 (by decide) (by omega)), a3.st hw f, fq Vm_st a4.1, fq Vm_st a4.2.1, fq Vi_st a4.2.2.1, fq Vi_st a4.2.2.2⟩
theorem Lg.push {l N : Nat} {xs : List Int32} {y : Int32} (h : Lg t l N xs) (e1 : cI t' (ei (N % 30)) l = y) (e2 : ∀ j, j < 30 → j ≠ N % 30 → cI t' (ei j) l = cI t (ei j) l) : Lg t' l (N + 1) ((if xs.length = 30 then xs.drop 1 else xs) ++ [y]) := by
  obtain ⟨h1, h2⟩ := h
  by_cases c : xs.length = 30
  · rw [if_pos c]
    have hl : (xs.drop 1 ++ [y]).length = 30 := by rw [List.length_append, List.length_drop, c]; rfl
    refine ⟨by rw [hl]; omega, fun k x hx => ?_⟩
    have hlt := (List.getElem?_eq_some_iff.mp hx).1
    rw [hl] at hlt
    rw [hl]
    by_cases ck : k < 29
    · rw [List.getElem?_append_left (by rw [List.length_drop, c]; exact ck), List.getElem?_drop] at hx
      have := h2 (1 + k) x hx
      rw [c] at this
      rw [← this, show N + 1 - 30 + k = N - 30 + (1 + k) from by omega]
      exact e2 _ (Nat.mod_lt _ (by omega)) (by omega)
    · have ek : k = 29 := by omega
      subst ek
      rw [List.getElem?_append_right (by rw [List.length_drop, c]; exact Nat.le_refl _), List.length_drop, c] at hx
      cases hx
      rw [show (N + 1 - 30 + 29) % 30 = N % 30 from by omega]
      exact e1
  · rw [if_neg c]
    have hN : xs.length = N ∧ N < 30 := by omega
    have hl : (xs ++ [y]).length = N + 1 := by rw [List.length_append, hN.1]; rfl
    refine ⟨by rw [hl]; omega, fun k x hx => ?_⟩
    have hlt := (List.getElem?_eq_some_iff.mp hx).1
    rw [hl] at hlt
    rw [hl]
    by_cases ck : k < N
    · rw [List.getElem?_append_left (by omega)] at hx
      have := h2 k x hx
      rw [hN.1] at this
      rw [← this, show (N + 1 - (N + 1) + k) % 30 = (N - N + k) % 30 from by omega]
      exact e2 _ (Nat.mod_lt _ (by omega)) (by omega)
    · have ek : k = N := by omega
      subst ek
      rw [List.getElem?_append_right (by omega), hN.1, Nat.sub_self] at hx
      cases hx
      rw [show (k + 1 - (k + 1) + k) % 30 = k % 30 from by omega]
      exact e1
theorem cw_code {n : Nat} (hx : Vm t x m) : fD_code x t = some (aCode m.2, t) := by
  unfold fD_code aCode
  rcases hx with ⟨x1, x2, x3, x4⟩ | ⟨x1, x2, x3, k, hk, x4, x5⟩
  · rw [if_pos x1, if_pos x4]
    unfold fX7_code
    simp only [gd_tr, letv_e, rv_e, onul_n, onul_s, ob_e, sI_I, sI_K, sI_L, sI_R, sI_n, sI_z, sR_R, sR_K, sR_L, sR_I, sR_n, sR_z, sN_n, sN_z, true_and, and_true, if_true, and_self, x1, x3]
  · rw [if_neg (by rw [x1]; decide), gd_t x1, if_neg (by rw [x5, nI_add]; exact nI_nlt (by omega) (by omega))]
    unfold fX10_code
    simp only [gd_tr, letv_e, rv_e, onul_n, onul_s, ob_e, sI_I, sI_K, sI_L, sI_R, sI_n, sI_z, sR_R, sR_K, sR_L, sR_I, sR_n, sR_z, sN_n, sN_z, true_and, and_true, if_true, and_self, x1, x4]
    rw [x5, Int32.add_comm (nI 1000) (nI k), ← Int32.add_assoc, Int32.add_sub_cancel]
end CLO
