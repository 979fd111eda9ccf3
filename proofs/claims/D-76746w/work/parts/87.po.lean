/-! THE COMPONENT: what a part of the work leaves, and what it costs -/
def sumTo : Nat → (Nat → Nat) → Nat
  | 0, _ => 0
  | n + 1, f => sumTo n f + f n
theorem sumTo_eq {f g : Nat → Nat} : ∀ n, (∀ i, i < n → f i = g i) → sumTo n f = sumTo n g
  | 0, _ => rfl
  | n + 1, h => by
    show sumTo n f + f n = sumTo n g + g n
    rw [sumTo_eq n (fun i hi => h i (by omega)), h n (by omega)]
theorem sumTo_upd {f g : Nat → Nat} {i : Nat} : ∀ n, i < n → (∀ j, j < n → j ≠ i → f j = g j) → sumTo n f + g i = sumTo n g + f i
  | 0, h, _ => by omega
  | n + 1, h, e => by
    show sumTo n f + f n + g i = sumTo n g + g n + f i
    by_cases c : i = n
    · subst c
      rw [sumTo_eq i (fun j hj => e j (by omega) (by omega))]
      omega
    · have := sumTo_upd n (by omega) (fun j hj => e j (by omega))
      rw [e n (by omega) (by omega)]
      omega
def Pw (W : aW) (i : Nat) : Nat := 34 * (aL W i 2).length + 2 * (aL W i 3).length
def Ph (W : aW) : Nat := sumTo (aN W) (Pw W)
theorem Ph_eq {W W' : aW} (hN : aN W' = aN W) (h : ∀ i, i < aN W → aL W' i 2 = aL W i 2 ∧ aL W' i 3 = aL W i 3) : Ph W' = Ph W := by
  unfold Ph
  rw [hN]
  exact sumTo_eq _ (fun i hi => by unfold Pw; rw [(h i hi).1, (h i hi).2])
theorem Ph_uL {W : aW} {i k : Nat} {xs : List (Int32 × Int32)} (hi : i < aN W) : Ph (uL W i k xs) + Pw W i = Ph W + Pw (uL W i k xs) i := by
  unfold Ph
  rw [uL_N]
  refine sumTo_upd (aN W) hi (fun j hj n => ?_)
  unfold Pw
  rw [uL_L, uL_L, if_neg (fun z => n z.1), if_neg (fun z => n z.1)]
/-- of a world: the state, the frame, two of its fields, the cost -/
def Po (P : Nat → Prop) (w : Nat) (A : Nat → Nat) (t t' : cS) (W W' : aW) (k s : Nat) : Prop :=
  CW P t' w A W' ∧ Fr P t t' ∧ (cI t' 17 w = cI t 17 w ∧ cI t' 18 w = cI t 18 w) ∧ cn t' + Ph W' ≤ cn t + Ph W + k ∧ cz t' + 3 * Ph W' ≤ cz t + 3 * Ph W + s
section POS
variable {P S : Nat → Prop} {t t' t'' : cS} {w i x : Nat} {A : Nat → Nat} {W W' W'' : aW} {k s k' s' : Nat}
theorem Po.rf (h : CW P t w A W) : Po P w A t t W W 0 0 := ⟨h, Fr.rf h.wf, ⟨rfl, rfl⟩, Nat.le_refl _, Nat.le_refl _⟩
theorem Po.trans (h : Po P w A t t' W W' k s) (h' : Po P w A t' t'' W' W'' k' s') : Po P w A t t'' W W'' (k + k') (s + s') := by
  obtain ⟨h1, h2, h3, h4, h5⟩ := h
  obtain ⟨g1, g2, g3, g4, g5⟩ := h'
  exact ⟨g1, h2.then g2, ⟨g3.1.trans h3.1, g3.2.trans h3.2⟩, by omega, by omega⟩
theorem Po.le (h : Po P w A t t' W W' k s) (hk : k ≤ k') (hs : s ≤ s') : Po P w A t t' W W' k' s' := by
  obtain ⟨h1, h2, h3, h4, h5⟩ := h
  exact ⟨h1, h2, h3, by omega, by omega⟩
/-- what is read straight on -/
theorem CW.fw (h : CW P t w A W) : cK t w = 2 ∧ cR t 6 w = some (w + 1) ∧ cI t 7 w = nI (aN W) ∧ cR t 12 w = some (w + 2) ∧ cR t 14 w = some (w + 3) ∧ cR t 20 w = some (w + 4) ∧ cK t (w + 2) = 3 ∧ cK t (w + 4) = 4 ∧ cR t 25 (w + 4) = some w ∧ cK t (w + 1) = 23 := by
  obtain ⟨⟨a1, a2⟩, ⟨b1, -⟩, ⟨c1, c2, c3, c4⟩, -⟩ := h.w1
  obtain ⟨cs, q1, -⟩ := h.tm
  exact ⟨a1, c1, b1, c2, c3, c4, q1.1.1, h.w4.1, h.w4.2, h.w2.1.1⟩
theorem CW.cl (h : CW P t w A W) (hi : i < aN W) : (nI i).toNatClampNeg = i := nI_clamp (by have := h.sp.1; omega)
theorem CW.fa (h : CW P t w A W) (hi : i < aN W) : (¬ (nI i < 0) ∧ (nI i).toNatClampNeg < cL t (w + 1)) ∧ cR t (er (nI i).toNatClampNeg) (w + 1) = some (A i) ∧ cK t (A i) = 5 ∧ (cI t 26 (A i) = nI i ∧ cI t 27 (A i) = aF W i 0 ∧ cI t 28 (A i) = aF W i 1 ∧ cI t 29 (A i) = aF W i 2 ∧ cI t 31 (A i) = aF W i 3 ∧ cI t 32 (A i) = aF W i 4 ∧ cI t 33 (A i) = aF W i 5 ∧ cI t 34 (A i) = aF W i 6 ∧ cI t 36 (A i) = nI (aL W i 0).length) ∧
    (cR t 30 (A i) = some (sid (aF W i 2)) ∧ cR t 35 (A i) = some (A i + 1) ∧ cR t 37 (A i) = some (A i + 2) ∧ cR t 38 (A i) = some (A i + 3) ∧ cR t 39 (A i) = some (A i + 4) ∧ cR t 40 (A i) = some (A i + 5) ∧ cR t 41 (A i) = some (A i + 6) ∧ cR t 42 (A i) = some (A i + 7)) ∧ cK t (A i + 1) = 20 ∧ cK t (A i + 2) = 3 ∧ cK t (A i + 3) = 3 ∧ cK t (A i + 4) = 3 ∧ cK t (A i + 5) = 3 := by
  obtain ⟨a1, a2, a3, a4⟩ := h.act hi
  have hN := h.sp.1
  have q : ∀ {q : Nat} {mo : Int32} {V : Nat → Int32 × Int32 → Prop} {xs : List (Int32 × Int32)}, Qv P t q mo V xs → cK t q = 3 := fun ⟨cs, h1, _⟩ => h1.1.1
  refine ⟨⟨?_, ?_⟩, ?_, a1.1.1, a1.2.1, a1.2.2, a2.1.1, q a4.1, q a4.2.1, q a4.2.2.1, q a4.2.2.2⟩
  · show ¬ nI i < nI 0
    exact nI_nlt (Nat.zero_le _) (by omega)
  · rw [h.cl hi, h.w2.1.2.2]; omega
  · rw [h.cl hi]; exact h.w2.2 i hi
/-- a queue's part lies in the world's -/
theorem Fr.ofQ {q : Nat} {mo : Int32} {cs : List (Nat × Nat)} (h : Qr P t q mo cs) (f : Fr (Qc q cs) t t') : Fr P t t' := f.mono (fun y _ z => by
  rcases z with z | z
  · rw [z]; exact h.1.2.1
  · obtain ⟨d, hd, e⟩ := List.mem_map.mp z
    rw [← e]; exact (h.2.2.2.1.cell d hd).2.1)
/-- the two fields stay when a queue changes -/
theorem CW.k2 {q : Nat} {mo : Int32} {cs : List (Nat × Nat)} (h : CW P t w A W) (hq : Qr P t q mo cs) (f : Fr (Qc q cs) t t') : cI t' 17 w = cI t 17 w ∧ cI t' 18 w = cI t 18 w := by
  obtain ⟨e1, e2, e3, e4⟩ := f.eq (h.lt h.w1.1.1 (by decide)) (qc_obj hq h.w1.1.1 (by decide) (by decide))
  exact ⟨e3 17, e3 18⟩
theorem CW.k0 (h : CW P t w A W) (f : Fr (fun _ => False) t t') : cI t' 17 w = cI t 17 w ∧ cI t' 18 w = cI t 18 w := by
  obtain ⟨e1, e2, e3, e4⟩ := f.eq (h.lt h.w1.1.1 (by decide)) (fun z => z)
  exact ⟨e3 17, e3 18⟩
theorem CW.kx (h : CW P t w A W) {k : Nat} (hk : cK t x = k) (k2 : k ≠ 2) (f : Fr (fun y => y = x) t t') : cI t' 17 w = cI t 17 w ∧ cI t' 18 w = cI t 18 w := by
  obtain ⟨e1, e2, e3, e4⟩ := f.eq (h.lt h.w1.1.1 (by decide)) (fun e => k2 (by rw [← hk, ← e]; exact h.w1.1.1))
  exact ⟨e3 17, e3 18⟩
/-- new things: so many, so big -/
theorem Po.ne (h : CW P t w A W) (f : Fr (fun _ => False) t t') (h1 : cn t' ≤ cn t + k) (h2 : cz t' ≤ cz t + s) : Po P w A t t' W W k s := ⟨h.fr0 f, f.mono (fun _ _ z => z.elim), h.k0 f, by omega, by omega⟩
/-- a queue of one actor, neither stash nor watchers -/
theorem Po.q {j : Nat} {mo : Int32} {cs : List (Nat × Nat)} (h : CW P t w A W) (hi : i < aN W) (hj : j = 1 ∨ j = 4) (hq : Qr P t (A i + 1 + j) mo cs) (f : Fr (Qc (A i + 1 + j) cs) t t') {xs : List (Int32 × Int32)} (h2 : Qv P t' (A i + 1 + j) (qMo j) (qV j t') xs) (e1 : cn t' ≤ cn t + k) (e2 : cz t' ≤ cz t + s) : Po P w A t t' W (uL W i j xs) k s := by
  have eP : Ph (uL W i j xs) = Ph W := Ph_eq rfl (fun a _ => ⟨by rw [uL_L, if_neg (by omega)], by rw [uL_L, if_neg (by omega)]⟩)
  exact ⟨h.frQ hi (by omega) hq f h2, Fr.ofQ hq f, h.k2 hq f, by omega, by omega⟩
/-- one of the world's ints: dead letters -/
theorem Po.g2 {y : Int32} (h : CW P t w A W) : Po P w A t (sI t 11 w y) W (uG W 2 y) 0 0 := by
  obtain ⟨⟨a1, a2⟩, ⟨b1, b2, b3, b4, b5, b6, b7, b8⟩, c, d⟩ := h.w1
  have m : cMut (cK t w) = true := by rw [a1]; rfl
  have f : Fr (fun y => y = w) t (sI t 11 w y) := fr_sI h.wf rfl m
  refine ⟨h.frW f ⟨rfl, rfl, rfl, rfl, rfl, rfl⟩ ⟨⟨a1, a2⟩, ⟨?_, ?_, ?_, ?_, ?_, ?_, ?_, ?_⟩, c, d.1.st h.wf f, d.2⟩, f.mono (fun y _ e => by rw [e]; exact a2), ⟨?_, ?_⟩, Nat.le_refl _, Nat.le_refl _⟩
  · rw [sI_I, if_neg (by omega)]; exact b1
  · rw [sI_I, if_neg (by omega)]; exact b2
  · rw [sI_I, if_neg (by omega)]; exact b3
  · rw [sI_I, if_neg (by omega)]; exact b4
  · rw [sI_I, if_pos ⟨rfl, rfl⟩]; rfl
  · rw [sI_I, if_neg (by omega)]; exact b6
  · rw [sI_I, if_neg (by omega)]; exact b7
  · rw [sI_I, if_neg (by omega)]; exact b8
  · rw [sI_I, if_neg (by omega)]
  · rw [sI_I, if_neg (by omega)]
end POS
/-- a message is sent -/
theorem cw_sends {P : Nat → Prop} {t : cS} {w i x : Nat} {A : Nat → Nat} {W : aW} {m : Int32 × Int32} (h : CW P t w A W) (hi : i < aN W) (hl : aF W i 5 = nI 0 ∨ aF W i 5 = nI 1) (hc : (aL W i 1).length ≤ 12) (hx : Vm t x m) : Ok (fX1_sends w (some (A i)) (some x) t) (fun r t' => r = zb (aSends W i m).1 ∧ Po P w A t t' W (aSends W i m).2 1 3) := by
  have fw := h.fw
  have fa := h.fa hi
  have e11 : cI t 11 w = aG W 2 := h.w1.2.1.2.2.2.2.1
  unfold fX1_sends
  unfold aSends
  have dead : Ok (gd (cK t w = 2) (letv (cI t 11 w) (fun x5 => gd (cK t w = 2) (letv (sI t 11 w (x5 + nI 1)) (fun s6 => some (nI 0, s6)))))) (fun r t' => r = nI 0 ∧ Po P w A t t' W (uG W 2 (aG W 2 + nI 1)) 1 3) := by
    simp only [gd_tr, letv_e, rv_e, onul_n, onul_s, ob_e, sI_I, sI_K, sI_L, sI_R, sI_n, sI_z, sR_R, sR_K, sR_L, sR_I, sR_n, sR_z, sN_n, sN_z, true_and, and_true, if_true, and_self, fw, e11]
    exact ok_some ⟨rfl, (Po.g2 h).le (by omega) (by omega)⟩
  simp only [gd_tr, letv_e, rv_e, onul_n, onul_s, ob_e, sI_I, sI_K, sI_L, sI_R, sI_n, sI_z, sR_R, sR_K, sR_L, sR_I, sR_n, sR_z, sN_n, sN_z, true_and, and_true, if_true, and_self, cIn, fa, jn]
  by_cases c : aF W i 5 = nI 1
  · refine ok_iff (by rw [c]; decide) ?_
    obtain ⟨cs, q1, q2⟩ := h.que hi (k := 1) (by omega)
    have lq : cs.length = (aL W i 1).length := by rw [← List.length_map Prod.snd, q2.len]
    refine ok_ob (qr_puts (m := 12) q1 h.wf (by omega) (by omega) (h.up _ (Nat.le_refl _))) (fun r t1 k => ?_)
    by_cases c2 : cs.length = 12
    · rw [if_pos c2] at k
      obtain ⟨rfl, rfl⟩ := k
      refine ok_ift rfl ?_
      rw [if_neg (by omega)]
      exact dead
    · rw [if_neg c2] at k
      obtain ⟨rfl, r1, f1, e1, e2⟩ := k
      refine ok_iff (by decide) ?_
      rw [if_pos ⟨c, by omega⟩]
      refine ok_some ⟨rfl, Po.q h hi (Or.inl rfl) q1 f1 ⟨_, r1, ?_⟩ (by omega) (by omega)⟩
      rw [List.map_append]
      exact Al.app (l' := [x]) (m' := [m]) ⟨Vm_st _ _ _ _ _ h.wf f1 hx, trivial⟩ (q2.st (V := fun t => qV 1 t) Vm_st h.wf f1)
  · have c0 : aF W i 5 = nI 0 := hl.resolve_right c
    refine ok_ift (by rw [c0]; rfl) ?_
    rw [if_neg (fun z => c z.1)]
    exact dead
