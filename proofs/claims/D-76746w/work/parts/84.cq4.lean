/-! THE COMPONENT: queues, ahead of a queue; in order; the i-th -/
section CQ4
variable {P P' S : Nat → Prop} {t t' t0 : cS} {q c x v m u pr : Nat} {most mo' : Int32} {cs : List (Nat × Nat)} {p : Nat × Nat → Bool}
theorem Qr.fr0 (h : Qr P t q most cs) (hw : cWf t) (f : Fr (fun _ => False) t t') : Qr P t' q most cs := h.fr1 hw f (fun z => z) (fun _ _ z => z)
theorem qr_aheadL {k : Nat} {v3 : Nat} {v4 : Int32} {kx : cS → Option (Int32 × cS)} {Q : Int32 → cS → Prop} (huq : u ≠ q) (hm : m < 2 ^ 31) (hk : k < 2 ^ 30) : ∀ (R cs : List (Nat × Nat)) (ptr : Option Nat) (i fuel : Nat) (t1 : cS), R.length < fuel → i + R.length < 2 ^ 30 → cWf t1 → Qr P t1 q (nI m) cs → cs.length + (k - i) ≤ m → cK t1 v = 8 → cR t1 48 v = ptr → Ch P' t1 u R ptr → (∀ y, cn t1 ≤ y → P y) →
    (∀ t', (∃ D, Qr P t' q (nI m) (cs ++ D) ∧ D.map Prod.snd = (R.take (k - i)).map Prod.snd ∧ ∀ y ∈ D.map Prod.fst, cn t1 ≤ y) → Fr (fun y => Qc q cs y ∨ y = v) t1 t' → cn t' = cn t1 + min (k - i) R.length → cz t' = cz t1 + 3 * min (k - i) R.length → Ok (kx t') Q) →
    Ok (fX2_ahead_L64 q (nI k) v3 v4 (some v) kx fuel (nI i) t1) Q := by
  intro R
  induction R with
  | nil =>
    intro cs ptr i fuel t1 hf hi hw hQ hl hv h48 hC hP kk
    obtain ⟨fuel, rfl⟩ : ∃ n, fuel = n + 1 := ⟨fuel - 1, by omega⟩
    have hC : ptr = none := hC
    rw [hC] at h48
    rw [fX2_ahead_L64]
    simp only [gd_tr, letv_e, rv_e, onul_n, onul_s, ob_e, sI_I, sI_K, sI_L, sI_R, sI_n, sI_z, sR_R, sR_K, sR_L, sR_I, sR_n, sR_z, sN_n, sN_z, true_and, and_true, if_true, and_self, hv, wk_none hv h48]
    exact kk t1 ⟨[], by rw [List.append_nil]; exact hQ, by rw [List.take_nil], fun _ h => by cases h⟩ (Fr.rf hw) (by rw [List.length_nil, Nat.min_zero]; rfl) (by rw [List.length_nil, Nat.min_zero]; rfl)
  | cons d R ih =>
    intro cs ptr i fuel t1 hf hi hw hQ hl hv h48 hC hP kk
    rw [List.length_cons] at hf hi
    obtain ⟨fuel, rfl⟩ : ∃ n, fuel = n + 1 := ⟨fuel - 1, by omega⟩
    obtain ⟨hp, ⟨d1, d2, d3, d4⟩, hC2⟩ := hC
    rw [hp] at h48
    have h1 := hQ.1.1
    have mv : cMut (cK t1 v) = true := by rw [hv]; rfl
    have fs : Fr (fun y => y = v) t1 (sR t1 48 v (cR t1 46 d.1)) := fr_sR hw rfl mv
    have nv : ∀ y k, cK t1 y = k → k ≠ 8 → ¬ y = v := fun y k hk n e => by rw [e, hv] at hk; exact n hk.symm
    have q8 : Qr P (sR t1 48 v (cR t1 46 d.1)) q (nI m) cs := hQ.fr1 hw fs (nv q 3 h1 (by decide)) (fun y hy => nv y.1 7 (hQ.2.2.2.1.cell y hy).1 (by decide))
    have c8 : Ch P' (sR t1 48 v (cR t1 46 d.1)) u R (cR t1 46 d.1) := hC2.fr hw fs (fun y hy _ => nv y 7 hy (by decide))
    have h48' : cR (sR t1 48 v (cR t1 46 d.1)) 48 v = cR t1 46 d.1 := by rw [sR_R, if_pos ⟨rfl, rfl⟩]
    rw [fX2_ahead_L64]
    simp only [gd_tr, letv_e, rv_e, onul_n, onul_s, ob_e, sI_I, sI_K, sI_L, sI_R, sI_n, sI_z, sR_R, sR_K, sR_L, sR_I, sR_n, sR_z, sN_n, sN_z, true_and, and_true, if_true, and_self, hv, wk_some hv h48, wk_next hv h48 d1, d3, jn]
    refine ok_iff (by decide) ?_
    by_cases c : i < k
    · refine ok_ift (nI_lt c (by omega)) ?_
      refine ok_gd h1 ?_
      refine ok_ob (qr_puts q8 hw (by omega) hm (hP _ (Nat.le_refl _))) (fun r t2 k2 => ?_)
      rw [if_neg (by omega)] at k2
      obtain ⟨-, r2, f2, e1, e2⟩ := k2
      have e1 : cn t2 = cn t1 + 1 := e1
      have e2 : cz t2 = cz t1 + 3 := e2
      rw [nI_add]
      have hv8 : v < cn t1 := hw.lt (by rw [hv]; decide)
      have qv : ¬ Qc q cs v := fun z => by
        rcases z with z | z
        · exact nv q 3 h1 (by decide) z.symm
        · obtain ⟨d', hd', e⟩ := List.mem_map.mp z
          exact nv d'.1 7 (hQ.2.2.2.1.cell d' hd').1 (by decide) e
      obtain ⟨v1, v2, v3', v4'⟩ := f2.eq (x := v) hv8 qv
      have c2 : Ch P' t2 u R (cR t1 46 d.1) := c8.fr hw f2 (fun y hy hu z => by
        rcases z with z | z
        · rw [z] at hy
          have hy : cK t1 q = 7 := hy
          rw [h1] at hy; exact absurd hy (by decide)
        · obtain ⟨d', hd', e⟩ := List.mem_map.mp z
          obtain ⟨-, -, -, z4⟩ := q8.2.2.2.1.cell d' hd'
          rw [e, hu] at z4
          exact huq (Option.some.inj z4))
      have g1 : Fr (fun y => Qc q cs y ∨ y = v) t1 t2 := (fs.mono (fun y _ z => Or.inr z)).trans f2 (fun y hy z => Or.inl z)
      refine ih (cs ++ [(cn t1, d.2)]) (cR t1 46 d.1) (i + 1) fuel t2 (by omega) (by omega) f2.1.2 r2 (by rw [List.length_append]; show cs.length + 1 + _ ≤ _; omega) (v1.trans hv) (by rw [v4', h48']) c2 (fun y hy => hP y (by omega)) (fun t' z1 z3 z4 z5 => kk t' ?_ ?_ ?_ ?_)
      · obtain ⟨D, z1, z2, z6⟩ := z1
        refine ⟨(cn t1, d.2) :: D, ?_, ?_, fun y hy => ?_⟩
        · rw [List.append_assoc] at z1; exact z1
        · rw [show k - i = (k - (i + 1)) + 1 from by omega, List.take_succ_cons, List.map_cons, List.map_cons, z2]
        · rcases List.mem_cons.mp hy with e | e
          · rw [e]; exact Nat.le_refl _
          · have := z6 y e
            omega
      · refine g1.trans z3 (fun y hy z => ?_)
        rcases z with (z | z) | z
        · exact Or.inl (Or.inl z)
        · rw [List.map_append] at z
          rcases List.mem_append.mp z with z | z
          · exact Or.inl (Or.inr z)
          · have z : y = cn t1 := List.mem_singleton.mp z
            omega
        · exact Or.inr z
      · rw [z4, e1, List.length_cons]; omega
      · rw [z5, e2, List.length_cons]; omega
    · refine ok_iff (nI_nlt (by omega) (by omega)) ?_
      rw [nI_add]
      refine ih cs (cR t1 46 d.1) (i + 1) fuel _ (by omega) (by omega) hw q8 (by omega) hv h48' c8 hP (fun t' z1 z3 z4 z5 => kk t' ?_ ?_ ?_ ?_)
      · rw [show k - i = 0 from by omega, List.take_zero]
        rw [show k - (i + 1) = 0 from by omega, List.take_zero] at z1
        exact z1
      · exact (fs.mono (S' := fun y => Qc q cs y ∨ y = v) (fun y _ z => Or.inr z)).then z3
      · rw [z4, show k - i = 0 from by omega, show k - (i + 1) = 0 from by omega, Nat.zero_min, Nat.zero_min]; rfl
      · rw [z5, show k - i = 0 from by omega, show k - (i + 1) = 0 from by omega, Nat.zero_min, Nat.zero_min]; rfl
theorem qr_ahead (huq : u ≠ q) (hm : m < 1000) {cs' : List (Nat × Nat)} (h : Qr P t q (nI m) cs) (hu : Qr P' t u mo' cs') (hw : cWf t) (hl : cs.length ≤ m) (hc : cs'.length < 1000) (hP : ∀ y, cn t ≤ y → P y) :
    Ok (fX2_ahead q (some u) t) (fun r t' => r = nI cs'.length - nI (min cs'.length (m - cs.length)) ∧ (∃ D, Qr P t' q (nI m) D ∧ D.map Prod.snd = (cs'.take (min cs'.length (m - cs.length))).map Prod.snd ++ cs.map Prod.snd) ∧ Fr (fun y => y = q) t t' ∧ (if cs' = [] then t' = t else cn t' ≤ cn t + 4 + cs'.length + 2 * cs.length ∧ cz t' ≤ cz t + 10 + 3 * (cs'.length + 2 * cs.length))) := by
  have h1 := h.1.1
  have h3 := h.1.2.2.1
  have h4 := h.1.2.2.2
  have u1 := hu.1.1
  have u4 := hu.1.2.2.2
  have hq := h.q_lt hw
  have hu8 := hu.q_lt hw
  unfold fX2_ahead
  simp only [gd_tr, letv_e, rv_e, onul_n, onul_s, ob_e, sI_I, sI_K, sI_L, sI_R, sI_n, sI_z, sR_R, sR_K, sR_L, sR_I, sR_n, sR_z, sN_n, sN_z, true_and, and_true, if_true, and_self, h1, h3, h4, u1, u4]
  by_cases c0 : cs' = []
  · subst c0
    refine ok_ift rfl ?_
    refine ok_some ⟨by rw [List.length_nil, Nat.zero_min]; rfl, ⟨cs, h, by rw [List.take_nil]; rfl⟩, Fr.rf hw, by rw [if_pos rfl]⟩
  · have hpos : 0 < cs'.length := List.length_pos_iff.mpr c0
    refine ok_iff (by rw [show (0 : Int32) = nI 0 from rfl]; exact nI_ne (by omega) (by omega) (by omega)) ?_
    have ek : (if nI m - nI cs.length < nI cs'.length then nI m - nI cs.length else nI cs'.length) = nI (min cs'.length (m - cs.length)) := by
      rw [nI_sub hl]
      by_cases c : m - cs.length < cs'.length
      · rw [if_pos (nI_lt c (by omega)), Nat.min_eq_right (by omega)]
      · rw [if_neg (nI_nlt (by omega) (by omega)), Nat.min_eq_left (by omega)]
    rw [ek]
    generalize hk : min cs'.length (m - cs.length) = k
    -- the new queue
    have kn : cK (sN t 3 0 4) (cn t) = 3 := by rw [sN_K, if_pos rfl]
    have kq : cK (sN t 3 0 4) q = 3 := by rw [sN_K, if_neg (by omega)]; exact h1
    have e21 : cI (sN t 3 0 4) 21 q = nI m := by rw [sN_I, if_neg (by omega)]; exact h3
    unfold fX2_init
    simp only [gd_tr, letv_e, rv_e, onul_n, onul_s, ob_e, sI_I, sI_K, sI_L, sI_R, sI_n, sI_z, sR_R, sR_K, sR_L, sR_I, sR_n, sR_z, sN_n, sN_z, true_and, and_true, if_true, and_self, kn, kq, e21]
    have f1 : ∀ {S : Nat → Prop}, Fr S t (sI (sN t 3 0 4) 21 (cn t) (nI m)) := fr_nI (fr_sN hw) (Nat.le_refl _)
    have w1 : cWf (sI (sN t 3 0 4) 21 (cn t) (nI m)) := (f1 (S := fun _ => False)).1.2
    have n1 : Qr P (sI (sN t 3 0 4) 21 (cn t) (nI m)) (cn t) (nI m) [] := by
      refine ⟨⟨kn, hP _ (Nat.le_refl _), ?_, ?_⟩, ?_, ?_, ?_, List.nodup_nil⟩
      · simp [sI_I]
      · simp [sI_I, sN_I]; rfl
      · simp [sI_R, sN_R]
      · simp [sI_R, sN_R]
      · show cR _ 22 (cn t) = none
        simp [sI_R, sN_R]
    have q1 : Qr P (sI (sN t 3 0 4) 21 (cn t) (nI m)) q (nI m) cs := h.fr0 hw f1
    have s1 : Qr P' (sI (sN t 3 0 4) 21 (cn t) (nI m)) u mo' cs' := hu.fr0 hw f1
    have c1 : cn (sI (sN t 3 0 4) 21 (cn t) (nI m)) = cn t + 1 := rfl
    have c2 : cz (sI (sN t 3 0 4) 21 (cn t) (nI m)) = cz t + 4 := rfl
    have g1 : Fr (fun y => y = q) t (sI (sN t 3 0 4) 21 (cn t) (nI m)) := f1
    clear f1
    generalize sI (sN t 3 0 4) 21 (cn t) (nI m) = t1 at w1 n1 q1 s1 c1 c2 g1 ⊢
    have nnq : cn t ≠ q := by omega
    have nnu : cn t ≠ u := by omega
    refine ok_ob (qr_all (u := q) (q := cn t) (Ne.symm nnq) (by omega) n1 q1 w1 (by rw [List.length_nil]; omega) (by omega) (fun y hy => hP y (by omega))) (fun _ t2 z => ?_)
    obtain ⟨⟨D, r2, rD, -⟩, f2, e1, e2⟩ := z
    rw [List.nil_append] at r2
    have w2 := f2.1.2
    have lD : D.length = cs.length := by rw [← List.length_map Prod.snd, rD, List.length_map]
    have g2 : Fr (fun y => y = q) t t2 := g1.trans f2 (fun y hy z => by
      rcases z with z | z
      · omega
      · cases z)
    have q2 := q1.fr2 w1 n1 (Ne.symm nnq) f2
    have s2 := s1.fr2 w1 n1 (Ne.symm nnu) f2
    refine ok_gd s2.1.1 ?_
    rw [s2.1.2.2.2]
    refine ok_letv ?_
    refine ok_letv ?_
    refine ok_gd q2.1.1 ?_
    refine ok_ob (qr_empties q2 w2) (fun _ t3 z => ?_)
    obtain ⟨r3, f3, e5, e6⟩ := z
    have w3 := f3.1.2
    have f3' : Fr (Qc q cs) t2 t3 := f3.mono (fun y _ z => Or.inl z)
    have s3 := s2.fr2 w2 q2 huq f3'
    have n3 := r2.fr2 w2 q2 nnq f3'
    have g3 : Fr (fun y => y = q) t t3 := g2.then f3
    refine ok_gd s3.1.1 ?_
    obtain ⟨t4, i1, i2, i3, i4, i5, i6, i7⟩ := q_iterO s3 w3
    refine ok_obE i1 ?_
    have r4 : Qr P t4 q (nI m) [] := r3.fr0 w3 i2
    have n4 : Qr P t4 (cn t) (nI m) D := n3.fr0 w3 i2
    have g4 : Fr (fun y => y = q) t t4 := g3.then (i2.mono (fun _ _ z => z.elim))
    have hkm : k ≤ m - cs.length := by omega
    have hkc : k ≤ cs'.length := by omega
    refine qr_aheadL (P := P) (P' := P') (k := k) (q := q) (u := u) huq (by omega) (by omega) cs' [] (cR t4 22 u) 0 FU t4 (by unfold FU; omega) (by omega) i2.1.2 r4 (by rw [List.length_nil]; omega) i3 i4 i5.2.2.2.1 (fun y hy => hP y (by omega)) (fun t5 z1 f5 e7 e8 => ?_)
    obtain ⟨E, r5, rE, lo⟩ := z1
    rw [List.nil_append] at r5
    rw [Nat.sub_zero] at rE e7 e8
    rw [Nat.min_eq_left hkc] at e7 e8
    have lE : E.length = k := by rw [← List.length_map Prod.snd, rE, List.length_map, List.length_take, Nat.min_eq_left hkc]
    have w5 := f5.1.2
    have n5 : Qr P t5 (cn t) (nI m) D := by
      refine n4.fr1 i2.1.2 f5 (fun z => ?_) (fun y hy z => ?_)
      · rcases z with z | z
        · exact n4.neq r4 nnq z
        · have := n4.1.1
          rw [z, i3] at this
          exact absurd this (by decide)
      · rcases z with z | z
        · exact n4.ne r4 nnq hy z
        · have := (n4.2.2.2.1.cell y hy).1
          rw [z, i3] at this
          exact absurd this (by decide)
    have g5 : Fr (fun y => y = q) t t5 := g4.trans f5 (fun y hy z => by
      rcases z with (z | z) | z
      · exact z
      · cases z
      · omega)
    refine ok_gd r5.1.1 ?_
    refine ok_ob (qr_all (u := cn t) (q := q) nnq (by omega) r5 n5 w5 (by omega) (by omega) (fun y hy => hP y (by omega))) (fun _ t6 z => ?_)
    obtain ⟨⟨G, r6, rG, -⟩, f6, e9, e10⟩ := z
    refine ok_some ⟨rfl, ⟨E ++ G, r6, by rw [List.map_append, rE, rG, rD]⟩, ?_, ?_⟩
    · exact g5.trans f6 (fun y hy z => by
        rcases z with z | z
        · exact z
        · have := lo y z
          omega)
    · rw [if_neg c0]
      omega
end CQ4
