/-! THE COMPONENT: queues, put and take -/
section CQ2
variable {P S : Nat → Prop} {t t' : cS} {q c x v m : Nat} {most : Int32} {cs : List (Nat × Nat)}
theorem Qr.q_lt (h : Qr P t q most cs) (hw : cWf t) : q < cn t := hw.lt (by rw [h.1.1]; decide)
theorem Qr.c_lt (h : Qr P t q most cs) (hw : cWf t) {d : Nat × Nat} (hd : d ∈ cs) : d.1 < cn t := hw.lt (by rw [(h.2.2.2.1.cell d hd).1]; decide)
theorem qr_puts (h : Qr P t q (nI m) cs) (hw : cWf t) (hl : cs.length ≤ m) (hm : m < 2 ^ 31) (hP : P (cn t)) : Ok (fX2_puts q (some x) t) (fun r t' => if cs.length = m then r = nI 0 ∧ t' = t else r = nI 1 ∧ Qr P t' q (nI m) (cs ++ [(cn t, x)]) ∧ Fr (Qc q cs) t t' ∧ cn t' = cn t + 1 ∧ cz t' = cz t + 3) := by
  have hq := h.q_lt hw
  have h1 := h.1.1
  have h3 := h.1.2.2.1
  have h4 := h.1.2.2.2
  unfold fX2_puts
  simp only [gd_tr, letv_e, rv_e, onul_n, onul_s, ob_e, sI_I, sI_K, sI_L, sI_R, sI_n, sI_z, sR_R, sR_K, sR_L, sR_I, sR_n, sR_z, sN_n, sN_z, true_and, and_true, if_true, and_self, h1, h3, h4]
  by_cases c : cs.length = m
  · refine ok_ift (by rw [c]) ?_
    exact ok_some (by rw [if_pos c]; exact ⟨rfl, rfl⟩)
  · refine ok_iff (nI_ne c (by omega) hm) ?_
    unfold fX8_init
    have k7 : cK (sN t 7 0 3) (cn t) = 7 := by rw [sN_K, if_pos rfl]
    have kq : cK (sN t 7 0 3) q = 3 := by rw [sN_K, if_neg (by omega)]; exact h1
    simp only [gd_tr, letv_e, rv_e, onul_n, onul_s, ob_e, sI_I, sI_K, sI_L, sI_R, sI_n, sI_z, sR_R, sR_K, sR_L, sR_I, sR_n, sR_z, sN_n, sN_z, true_and, and_true, if_true, and_self, k7, kq]
    have f0 : ∀ {S : Nat → Prop}, Fr S t (sR (sR (sN t 7 0 3) 47 (cn t) (some q)) 45 (cn t) (some x)) := fr_nR (fr_nR (fr_sN hw) (Nat.le_refl _)) (Nat.le_refl _)
    have r0 : Qr P (sR (sR (sN t 7 0 3) 47 (cn t) (some q)) 45 (cn t) (some x)) q (nI m) cs := h.fr hw (f0 (S := fun _ => False)) (fun _ _ z => z)
    refine ok_ob (qr_links r0 (f0 (S := fun _ => False)).1.2 (c := cn t) (x := x) ⟨k7, hP, ?_, ?_⟩ ?_ (fun z => ?_)) (fun _ t1 k1 => ?_)
    · simp [sR_R]
    · simp [sR_R]
    · simp [sR_R, sN_R]
    · obtain ⟨d, hd, e⟩ := List.mem_map.mp z
      have := h.c_lt hw hd
      omega
    · obtain ⟨k2, k3, k4, k5⟩ := k1
      refine ok_some ?_
      rw [if_neg c]
      exact ⟨rfl, k2, f0.then k3, k4, k5⟩
theorem qr_takes {d : Nat × Nat} (h : Qr P t q most (d :: cs)) (hw : cWf t) (hl : cs.length < 2 ^ 30) : Ok (fX2_takes q t) (fun r t' => r = some d.2 ∧ Qr P t' q most cs ∧ Fr (fun y => y = q) t t' ∧ cn t' = cn t ∧ cz t' = cz t) := by
  obtain ⟨⟨h1, h2, h3, h4⟩, h5, h6, ⟨h7, ⟨h8, h9, h10, h11⟩, h12⟩, hn⟩ := h
  have mq : cMut (cK t q) = true := by rw [h1]; rfl
  have h4 : cI t 24 q = nI cs.length + nI 1 := by rw [h4, nI_add]; rfl
  have hdq : d.1 ≠ q := fun e => by rw [e, h1] at h8; exact absurd h8 (by decide)
  have hn2 := (List.nodup_cons.mp hn).2
  have e46 : cR t 46 d.1 = cs.head?.map Prod.fst := by
    cases cs with
    | nil => exact h12
    | cons b l => exact h12.1
  have esub : nI cs.length + nI 1 - nI 1 = nI cs.length := by rw [nI_add, nI_sub (by omega)]; congr 1
  have nq : ∀ y ∈ cs, ¬ y.1 = q := fun y hy e => by
    have := (h12.cell y hy).1
    rw [e, h1] at this
    exact absurd this (by decide)
  unfold fX2_takes
  simp only [gd_tr, letv_e, rv_e, onul_n, onul_s, ob_e, sI_I, sI_K, sI_L, sI_R, sI_n, sI_z, sR_R, sR_K, sR_L, sR_I, sR_n, sR_z, sN_n, sN_z, true_and, and_true, if_true, and_self, h1, h4, h7, h8, h10, jn, esub]
  cases cs with
  | nil =>
    have e46 : cR t 46 d.1 = none := e46
    simp only [gd_tr, letv_e, rv_e, onul_n, onul_s, ob_e, sI_I, sI_K, sI_L, sI_R, sI_n, sI_z, sR_R, sR_K, sR_L, sR_I, sR_n, sR_z, sN_n, sN_z, true_and, and_true, if_true, and_self, h1, h4, e46, esub]
    refine ok_some ⟨rfl, ⟨⟨h1, h2, h3, ?_⟩, ?_, ?_, ?_, hn2⟩, ?_, rfl, rfl⟩
    · simp [sI_I]
    · simp [sI_R, sR_R]
    · simp [sI_R, sR_R]
    · show cR _ 22 q = none
      simp [sI_R, sR_R]
    · refine Fr.then (fr_sR hw rfl mq) (Fr.then (fr_sR ?_ rfl mq) (fr_sI ?_ rfl mq)) <;> exact hw
  | cons b l =>
    have e46 : cR t 46 d.1 = some b.1 := e46
    simp only [gd_tr, letv_e, rv_e, onul_n, onul_s, ob_e, sI_I, sI_K, sI_L, sI_R, sI_n, sI_z, sR_R, sR_K, sR_L, sR_I, sR_n, sR_z, sN_n, sN_z, true_and, and_true, if_true, and_self, h1, h4, e46, esub]
    refine ok_some ⟨rfl, ⟨⟨h1, h2, h3, ?_⟩, ?_, ?_, ?_, hn2⟩, ?_, rfl, rfl⟩
    · simp [sI_I]
    · simp [sI_R, sR_R]
    · simp only [sI_R, sR_R]
      rw [if_neg (by omega), h6]
      rfl
    · have e22 : cR (sI (sR t 22 q (some b.1)) 24 q (nI (b :: l).length)) 22 q = some b.1 := by simp [sI_R, sR_R]
      rw [e22, ← e46]
      refine h12.eq (fun y hy => ?_)
      refine ⟨rfl, rfl, fun f => ?_, fun f => ?_⟩
      · rw [sI_I, if_neg (fun z => nq y hy z.2)]; rfl
      · rw [sI_R, sR_R, if_neg (fun z => nq y hy z.2)]
    · refine Fr.then (fr_sR hw rfl mq) (fr_sI ?_ rfl mq); exact hw
theorem qr_empties (h : Qr P t q most cs) (hw : cWf t) : Ok (fX2_empties q t) (fun _ t' => Qr P t' q most [] ∧ Fr (fun y => y = q) t t' ∧ cn t' = cn t ∧ cz t' = cz t) := by
  obtain ⟨⟨h1, h2, h3, h4⟩, -⟩ := h
  have mq : cMut (cK t q) = true := by rw [h1]; rfl
  unfold fX2_empties
  simp only [gd_tr, letv_e, rv_e, onul_n, onul_s, ob_e, sI_I, sI_K, sI_L, sI_R, sI_n, sI_z, sR_R, sR_K, sR_L, sR_I, sR_n, sR_z, sN_n, sN_z, true_and, and_true, if_true, and_self, h1]
  refine ok_some ⟨⟨⟨h1, h2, h3, ?_⟩, ?_, ?_, ?_, List.nodup_nil⟩, ?_, rfl, rfl⟩
  · simp [sI_I]
  · simp [sI_R, sR_R]
  · simp [sI_R, sR_R]
  · show cR _ 22 q = none
    simp [sI_R, sR_R]
  · refine Fr.then (fr_sR hw rfl mq) (Fr.then (fr_sR ?_ rfl mq) (fr_sI ?_ rfl mq)) <;> exact hw
/-! walks -/
theorem wk_none (h : cK t v = 8) (h48 : cR t 48 v = none) : fX9_hasNext v t = some (nI 0, t) := by
  unfold fX9_hasNext
  simp only [gd_tr, letv_e, rv_e, onul_n, onul_s, ob_e, sI_I, sI_K, sI_L, sI_R, sI_n, sI_z, sR_R, sR_K, sR_L, sR_I, sR_n, sR_z, sN_n, sN_z, true_and, and_true, if_true, and_self, h, h48]
theorem wk_some (h : cK t v = 8) (h48 : cR t 48 v = some c) : fX9_hasNext v t = some (nI 1, t) := by
  unfold fX9_hasNext
  simp only [gd_tr, letv_e, rv_e, onul_n, onul_s, ob_e, sI_I, sI_K, sI_L, sI_R, sI_n, sI_z, sR_R, sR_K, sR_L, sR_I, sR_n, sR_z, sN_n, sN_z, true_and, and_true, if_true, and_self, h, h48]
theorem wk_next (h : cK t v = 8) (h48 : cR t 48 v = some c) (hc : cK t c = 7) : fX9_next v t = some (cR t 45 c, sR t 48 v (cR t 46 c)) := by
  unfold fX9_next
  simp only [gd_tr, letv_e, rv_e, onul_n, onul_s, ob_e, sI_I, sI_K, sI_L, sI_R, sI_n, sI_z, sR_R, sR_K, sR_L, sR_I, sR_n, sR_z, sN_n, sN_z, true_and, and_true, if_true, and_self, h, h48, hc]
theorem q_iter (h : cK t q = 3) (hq : q < cn t) : fX2_iterator q t = some (some (cn t), sR (sR (sN t 8 0 2) 49 (cn t) (some q)) 48 (cn t) (cR t 22 q)) := by
  have k8 : cK (sN t 8 0 2) (cn t) = 8 := by rw [sN_K, if_pos rfl]
  have kq : cK (sN t 8 0 2) q = 3 := by rw [sN_K, if_neg (by omega)]; exact h
  have e1 : cR (sR (sN t 8 0 2) 49 (cn t) (some q)) 22 q = cR t 22 q := by simp only [sR_R, sN_R]; rw [if_neg (by omega), if_neg (by omega)]
  have e2 : cR (sR (sN t 8 0 2) 49 (cn t) (some q)) 49 (cn t) = some q := by simp [sR_R]
  unfold fX2_iterator fX9_init
  have e1 : (if 22 = 49 ∧ q = cn t then some q else cR (sN t 8 0 2) 22 q) = cR t 22 q := e1
  simp only [gd_tr, letv_e, rv_e, onul_n, onul_s, ob_e, sI_I, sI_K, sI_L, sI_R, sI_n, sI_z, sR_R, sR_K, sR_L, sR_I, sR_n, sR_z, sN_n, sN_z, true_and, and_true, if_true, and_self, k8, kq, e1]
/-- a new walk stands at the first one -/
theorem q_iterO (h : Qr P t q most cs) (hw : cWf t) : ∃ t1, fX2_iterator q t = some (some (cn t), t1) ∧ Fr (fun _ => False) t t1 ∧ cK t1 (cn t) = 8 ∧ cR t1 48 (cn t) = cR t1 22 q ∧ Qr P t1 q most cs ∧ cn t1 = cn t + 1 ∧ cz t1 = cz t + 2 := by
  have hq := h.q_lt hw
  have f0 : Fr (fun _ => False) t (sR (sR (sN t 8 0 2) 49 (cn t) (some q)) 48 (cn t) (cR t 22 q)) := fr_nR (fr_nR (fr_sN hw) (Nat.le_refl _)) (Nat.le_refl _)
  refine ⟨_, q_iter h.1.1 hq, f0, ?_, ?_, h.fr hw f0 (fun _ _ z => z), rfl, rfl⟩
  · show cK (sN t 8 0 2) (cn t) = 8
    rw [sN_K, if_pos rfl]
  · have hne : q ≠ cn t := by omega
    simp [sR_R, sN_R, hne]
end CQ2
