/-! THE COMPONENT: queues, drops and copies -/
section CQ3
variable {P P' S : Nat → Prop} {t t' t0 : cS} {q c x v m u pr : Nat} {most mo' : Int32} {cs : List (Nat × Nat)} {p : Nat × Nat → Bool}
theorem Ch.fr {ptr : Option Nat} (h : Ch P t q cs ptr) (hw : cWf t) (f : Fr S t t') (n : ∀ y, cK t y = 7 → cR t 47 y = some q → ¬ S y) : Ch P t' q cs ptr := h.eq (fun d hd => by
  obtain ⟨c1, c2, c3, c4⟩ := h.cell d hd
  exact f.eq (hw.lt (by rw [c1]; decide)) (n d.1 c1 c4))
theorem qr_dropsL (hp : ∀ t', Fr (Qc q cs) t0 t' → ∀ d ∈ cs, fD_is pr (some d.2) t' = some (zb (p d), t')) : ∀ (R D : List (Nat × Nat)) (ptr : Option Nat) (fuel : Nat) (t1 : cS), R.length < fuel → (∀ d ∈ R, d ∈ cs) → (∀ d ∈ D, d ∈ cs) → cWf t1 → Qr P t1 q most D → Ch P t1 q R ptr → ((D ++ R).map Prod.fst).Nodup → Fr (Qc q cs) t0 t1 → cn t1 = cn t0 → cz t1 = cz t0 →
    Ok (fX2_drops_L9 q (some pr) (fun t15 => some ((), t15)) fuel ptr t1) (fun _ t' => Qr P t' q most (D ++ R.filter (fun d => !p d)) ∧ Fr (Qc q cs) t0 t' ∧ cn t' = cn t0 ∧ cz t' = cz t0) := by
  intro R
  induction R with
  | nil =>
    intro D ptr fuel t1 hf hR hDc hw hD hC hn f e1 e2
    obtain ⟨fuel, rfl⟩ : ∃ n, fuel = n + 1 := ⟨fuel - 1, by omega⟩
    have hC : ptr = none := hC
    subst hC
    rw [fX2_drops_L9, onul_n]
    exact ok_some ⟨by rw [List.filter_nil, List.append_nil]; exact hD, f, e1, e2⟩
  | cons d R ih =>
    intro D ptr fuel t1 hf hR hDc hw hD hC hn f e1 e2
    rw [List.length_cons] at hf
    obtain ⟨fuel, rfl⟩ : ∃ n, fuel = n + 1 := ⟨fuel - 1, by omega⟩
    obtain ⟨rfl, ⟨d1, d2, d3, d4⟩, hC2⟩ := hC
    have h1 := hD.1.1
    have hdq : d.1 ≠ q := fun e => by rw [e, h1] at d1; exact absurd d1 (by decide)
    have md : cMut (cK t1 d.1) = true := by rw [d1]; rfl
    have hdc : d.1 ∈ cs.map Prod.fst := List.mem_map_of_mem (f := Prod.fst) (hR d List.mem_cons_self)
    rw [List.map_append, List.map_cons] at hn
    obtain ⟨n1, n2, n3⟩ := List.nodup_append.mp hn
    obtain ⟨n4, n5⟩ := List.nodup_cons.mp n2
    have fs : ∀ {S : Nat → Prop}, S d.1 → Fr S t1 (sR t1 46 d.1 none) := fun hS => fr_sR hw hS md
    have f6 : Fr (Qc q cs) t0 (sR t1 46 d.1 none) := f.then (fs (Or.inr hdc))
    have hD6 : Qr P (sR t1 46 d.1 none) q most D := hD.fr1 hw (fs (S := fun y => y = d.1) rfl) (fun z => hdq z.symm) (fun y hy z => n3 y.1 (List.mem_map_of_mem (f := Prod.fst) hy) d.1 List.mem_cons_self z)
    have hC6 : Ch P (sR t1 46 d.1 none) q R (cR t1 46 d.1) := hC2.eq (fun y hy => (fs (S := fun y => y = d.1) rfl).eq (by
      obtain ⟨k1, -⟩ := hC2.cell y hy
      exact hw.lt (by rw [k1]; decide)) (fun z => n4 (by rw [← z]; exact List.mem_map_of_mem (f := Prod.fst) hy)))
    have is := hp _ f6 d (hR d List.mem_cons_self)
    have d45 : cR (sR t1 46 d.1 none) 45 d.1 = some d.2 := by rw [sR_R, if_neg (by omega)]; exact d3
    rw [fX2_drops_L9]
    simp only [gd_tr, letv_e, rv_e, onul_n, onul_s, ob_e, sI_I, sI_K, sI_L, sI_R, sI_n, sI_z, sR_R, sR_K, sR_L, sR_I, sR_n, sR_z, sN_n, sN_z, true_and, and_true, if_true, and_self, d1, jn]
    refine ok_obE (r := zb (p d)) (s := sR t1 46 d.1 none) ?_ ?_
    · rw [if_neg (by decide), d3]; exact is
    · cases hpd : p d with
      | true =>
        refine ok_iff (by decide) ?_
        have := ih D (cR t1 46 d.1) fuel (sR t1 46 d.1 none) (by omega) (fun y hy => hR y (List.mem_cons_of_mem _ hy)) hDc hw hD6 hC6 (by
          rw [List.map_append]
          exact List.nodup_append.mpr ⟨n1, n5, fun a ha b hb => n3 a ha b (List.mem_cons_of_mem _ hb)⟩) f6 e1 e2
        rw [List.filter_cons_of_neg (by rw [hpd]; decide)]
        exact this
      | false =>
        refine ok_ift rfl ?_
        refine ok_gd h1 ?_
        refine ok_ob (qr_links hD6 hw (c := d.1) (x := d.2) ⟨d1, d2, d45, by rw [sR_R, if_neg (by omega)]; exact d4⟩ (by rw [sR_R, if_pos ⟨rfl, rfl⟩]) (fun z => n3 d.1 z d.1 List.mem_cons_self rfl)) (fun _ t2 k => ?_)
        obtain ⟨r2, g2, g3, g4⟩ := k
        have w2 := g2.1.2
        have := ih (D ++ [d]) (cR t1 46 d.1) fuel t2 (by omega) (fun y hy => hR y (List.mem_cons_of_mem _ hy)) (fun y hy => by
          rcases List.mem_append.mp hy with z | z
          · exact hDc y z
          · rw [List.mem_singleton.mp z]; exact hR d List.mem_cons_self) w2 r2 (hC6.eq (fun y hy => g2.eq (by
            obtain ⟨k1, -⟩ := hC6.cell y hy
            exact (show cWf (sR t1 46 d.1 none) from hw).lt (by rw [k1]; decide)) (fun z => by
            have hy2 := List.mem_map_of_mem (f := Prod.fst) hy
            rcases z with z | z
            · obtain ⟨k1, -⟩ := hC6.cell y hy
              rw [z] at k1
              have k1 : cK t1 q = 7 := k1
              rw [h1] at k1
              exact absurd k1 (by decide)
            · exact n3 _ z _ (List.mem_cons_of_mem _ hy2) rfl))) (by
          rw [List.append_assoc]
          show ((D ++ d :: R).map Prod.fst).Nodup
          rw [List.map_append, List.map_cons]
          exact hn) (f6.trans g2 (fun y hy z => by
            rcases z with z | z
            · exact Or.inl z
            · obtain ⟨d', hd', e⟩ := List.mem_map.mp z
              exact Or.inr (by rw [← e]; exact List.mem_map_of_mem (f := Prod.fst) (hDc d' hd')))) (g3.trans e1) (g4.trans e2)
        rw [List.filter_cons_of_pos (by rw [hpd]; rfl)]
        rw [List.append_assoc] at this
        exact this
theorem qr_drops (h : Qr P t q most cs) (hw : cWf t) (hl : cs.length < 4000) (hp : ∀ t', Fr (Qc q cs) t t' → ∀ d ∈ cs, fD_is pr (some d.2) t' = some (zb (p d), t')) : Ok (fX2_drops q (some pr) t) (fun _ t' => Qr P t' q most (cs.filter (fun d => !p d)) ∧ Fr (Qc q cs) t t' ∧ cn t' = cn t ∧ cz t' = cz t) := by
  have h1 := h.1.1
  have hC := h.2.2.2.1
  have hn := h.2.2.2.2
  unfold fX2_drops
  simp only [gd_tr, letv_e, rv_e, onul_n, onul_s, ob_e, sI_I, sI_K, sI_L, sI_R, sI_n, sI_z, sR_R, sR_K, sR_L, sR_I, sR_n, sR_z, sN_n, sN_z, true_and, and_true, if_true, and_self, h1]
  refine ok_ob (qr_empties h hw) (fun _ t1 k => ?_)
  obtain ⟨r1, f1, e1, e2⟩ := k
  have nq : ∀ d ∈ cs, ¬ d.1 = q := fun d hd e => by
    have := (hC.cell d hd).1
    rw [e, h1] at this
    exact absurd this (by decide)
  have hC1 : Ch P t1 q cs (cR t 22 q) := hC.eq (fun d hd => f1.eq (h.c_lt hw hd) (nq d hd))
  have := qr_dropsL (P := P) (t0 := t) (most := most) (p := p) (pr := pr) (cs := cs) hp cs [] (cR t 22 q) FU t1 (by unfold FU; omega) (fun _ h => h) (fun _ h => by cases h) f1.1.2 r1 hC1 hn (f1.mono (fun y _ z => Or.inl z)) e1 e2
  exact this
/-! copies -/
theorem qr_allL (huq : u ≠ q) (hm : m < 2 ^ 31) : ∀ (R cs : List (Nat × Nat)) (ptr : Option Nat) (fuel : Nat) (t1 : cS), R.length < fuel → cWf t1 → Qr P t1 q (nI m) cs → cs.length + R.length ≤ m → cK t1 v = 8 → cR t1 48 v = ptr → Ch P' t1 u R ptr → (∀ y, cn t1 ≤ y → P y) →
    Ok (fX2_all_L5 q (some v) (fun t11 => some ((), t11)) fuel t1) (fun _ t' => (∃ D, Qr P t' q (nI m) (cs ++ D) ∧ D.map Prod.snd = R.map Prod.snd ∧ ∀ y ∈ D.map Prod.fst, cn t1 ≤ y) ∧ Fr (fun y => Qc q cs y ∨ y = v) t1 t' ∧ cn t' = cn t1 + R.length ∧ cz t' = cz t1 + 3 * R.length) := by
  intro R
  induction R with
  | nil =>
    intro cs ptr fuel t1 hf hw hQ hl hv h48 hC hP
    obtain ⟨fuel, rfl⟩ : ∃ n, fuel = n + 1 := ⟨fuel - 1, by omega⟩
    have hC : ptr = none := hC
    rw [hC] at h48
    rw [fX2_all_L5]
    simp only [gd_tr, letv_e, rv_e, onul_n, onul_s, ob_e, sI_I, sI_K, sI_L, sI_R, sI_n, sI_z, sR_R, sR_K, sR_L, sR_I, sR_n, sR_z, sN_n, sN_z, true_and, and_true, if_true, and_self, hv, wk_none hv h48]
    exact ok_some ⟨⟨[], by rw [List.append_nil]; exact hQ, rfl, fun _ h => by cases h⟩, Fr.rf hw, rfl, rfl⟩
  | cons d R ih =>
    intro cs ptr fuel t1 hf hw hQ hl hv h48 hC hP
    rw [List.length_cons] at hf hl
    obtain ⟨fuel, rfl⟩ : ∃ n, fuel = n + 1 := ⟨fuel - 1, by omega⟩
    obtain ⟨hp, ⟨d1, d2, d3, d4⟩, hC2⟩ := hC
    rw [hp] at h48
    have h1 := hQ.1.1
    have mv : cMut (cK t1 v) = true := by rw [hv]; rfl
    have fs : Fr (fun y => y = v) t1 (sR t1 48 v (cR t1 46 d.1)) := fr_sR hw rfl mv
    have nv : ∀ y k, cK t1 y = k → k ≠ 8 → ¬ y = v := fun y k hk n e => by rw [e, hv] at hk; exact n hk.symm
    have q8 : Qr P (sR t1 48 v (cR t1 46 d.1)) q (nI m) cs := hQ.fr1 hw fs (nv q 3 h1 (by decide)) (fun y hy => nv y.1 7 (hQ.2.2.2.1.cell y hy).1 (by decide))
    have c8 : Ch P' (sR t1 48 v (cR t1 46 d.1)) u R (cR t1 46 d.1) := hC2.fr hw fs (fun y hy _ => nv y 7 hy (by decide))
    rw [fX2_all_L5]
    simp only [gd_tr, letv_e, rv_e, onul_n, onul_s, ob_e, sI_I, sI_K, sI_L, sI_R, sI_n, sI_z, sR_R, sR_K, sR_L, sR_I, sR_n, sR_z, sN_n, sN_z, true_and, and_true, if_true, and_self, hv, wk_some hv h48, wk_next hv h48 d1, d3]
    refine ok_iff (by decide) ?_
    refine ok_gd h1 ?_
    refine ok_ob (qr_puts q8 hw (by omega) hm (hP _ (Nat.le_refl _))) (fun r t2 k => ?_)
    rw [if_neg (by omega)] at k
    obtain ⟨-, r2, f2, e1, e2⟩ := k
    have e1 : cn t2 = cn t1 + 1 := e1
    have e2 : cz t2 = cz t1 + 3 := e2
    have hv8 : v < cn t1 := hw.lt (by rw [hv]; decide)
    have qv : ¬ Qc q cs v := fun z => by
      rcases z with z | z
      · exact nv q 3 h1 (by decide) z.symm
      · obtain ⟨d', hd', e⟩ := List.mem_map.mp z
        exact nv d'.1 7 (hQ.2.2.2.1.cell d' hd').1 (by decide) e
    obtain ⟨v1, v2, v3, v4⟩ := f2.eq (x := v) hv8 qv
    have c2 : Ch P' t2 u R (cR t1 46 d.1) := c8.fr hw f2 (fun y hy hu z => by
      rcases z with z | z
      · rw [z] at hy
        have hy : cK t1 q = 7 := hy
        rw [h1] at hy; exact absurd hy (by decide)
      · obtain ⟨d', hd', e⟩ := List.mem_map.mp z
        obtain ⟨-, -, -, z4⟩ := q8.2.2.2.1.cell d' hd'
        rw [e, hu] at z4
        exact huq (Option.some.inj z4))
    have := ih (cs ++ [(cn (sR t1 48 v (cR t1 46 d.1)), d.2)]) (cR t1 46 d.1) fuel t2 (by omega) f2.1.2 r2 (by rw [List.length_append]; show cs.length + 1 + _ ≤ _; omega) (v1.trans hv) (by rw [v4, sR_R, if_pos ⟨rfl, rfl⟩]) c2 (fun y hy => hP y (by omega))
    refine ok_mono this (fun _ t' z => ?_)
    obtain ⟨⟨D, z1, z2, z6⟩, z3, z4, z5⟩ := z
    refine ⟨⟨(cn t1, d.2) :: D, ?_, ?_, fun y hy => ?_⟩, ?_, by rw [z4, e1, List.length_cons]; omega, by rw [z5, e2, List.length_cons]; omega⟩
    · rw [List.append_assoc] at z1
      exact z1
    · rw [List.map_cons, List.map_cons, z2]
    · rcases List.mem_cons.mp hy with e | e
      · rw [e]; exact Nat.le_refl _
      · have := z6 y e
        omega
    · have g1 : Fr (fun y => Qc q cs y ∨ y = v) t1 t2 := (fs.mono (fun y _ z => Or.inr z)).trans f2 (fun y hy z => Or.inl z)
      refine g1.trans z3 (fun y hy z => ?_)
      rcases z with (z | z) | z
      · exact Or.inl (Or.inl z)
      · rw [List.map_append] at z
        rcases List.mem_append.mp z with z | z
        · exact Or.inl (Or.inr z)
        · have z : y = cn t1 := List.mem_singleton.mp z
          omega
      · exact Or.inr z
theorem qr_all (huq : u ≠ q) (hm : m < 2 ^ 31) {cs' : List (Nat × Nat)} (h : Qr P t q (nI m) cs) (hu : Qr P' t u mo' cs') (hw : cWf t) (hl : cs.length + cs'.length ≤ m) (hc : cs'.length < 4000) (hP : ∀ y, cn t ≤ y → P y) : Ok (fX2_all q (some u) t) (fun _ t' => (∃ D, Qr P t' q (nI m) (cs ++ D) ∧ D.map Prod.snd = cs'.map Prod.snd ∧ ∀ y ∈ D.map Prod.fst, cn t ≤ y) ∧ Fr (Qc q cs) t t' ∧ cn t' = cn t + 1 + cs'.length ∧ cz t' = cz t + 2 + 3 * cs'.length) := by
  unfold fX2_all
  obtain ⟨t1, i1, i2, i3, i4, i5, i6, i7⟩ := q_iterO hu hw
  simp only [gd_tr, letv_e, rv_e, onul_n, onul_s, ob_e, sI_I, sI_K, sI_L, sI_R, sI_n, sI_z, sR_R, sR_K, sR_L, sR_I, sR_n, sR_z, sN_n, sN_z, true_and, and_true, if_true, and_self, hu.1.1, i1]
  have h1 : Qr P t1 q (nI m) cs := h.fr1 hw i2 (fun z => z) (fun _ _ z => z)
  refine ok_mono (qr_allL huq hm cs' cs (cR t1 22 u) FU t1 (by unfold FU; omega) i2.1.2 h1 hl i3 i4 i5.2.2.2.1 (fun y hy => hP y (by omega))) (fun _ t' z => ?_)
  obtain ⟨⟨D, z1, z2, z6⟩, z3, z4, z5⟩ := z
  refine ⟨⟨D, z1, z2, fun y hy => by have := z6 y hy; omega⟩, (i2.mono (S' := Qc q cs) (fun _ _ z => z.elim)).trans z3 (fun y hy z => ?_), by rw [z4, i6], by rw [z5, i7]⟩
  rcases z with z | z
  · exact z
  · omega
end CQ3
