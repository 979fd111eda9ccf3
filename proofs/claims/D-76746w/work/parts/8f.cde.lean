/-! THE COMPONENT: what one does -/
section CDE
variable {P : Nat → Prop} {t t' : cS} {w i j x p : Nat} {A : Nat → Nat} {W : aW} {m : Int32 × Int32}
/-- a message's fields, in a state -/
def Mo (t : cS) (x : Nat) (m : Int32 × Int32) : Prop := cK t x = 6 ∧ cI t 43 x = m.1 ∧ cI t 44 x = m.2
theorem Mo.st {S : Nat → Prop} (h : Mo t x m) (hw : cWf t) (f : Fr S t t') : Mo t' x m := by
  obtain ⟨e1, e2, e3, e4⟩ := f.immK hw h.1 (by decide) rfl
  exact ⟨e1.trans h.1, (e3 43).trans h.2.1, (e3 44).trans h.2.2⟩
theorem cw_timed {y : Nat} {v : Int32 × Int32 × Int32} (h : CW P t w A W) (ht : (aT W).length ≤ 10) (hy : Vt t y v) : Ok (fX1_timed w (some y) t) (fun _ t' => Po P w A t t' W (if (aT W).length < 10 then uT W (aT W ++ [v]) else W) 2 4) := by
  have fw := h.fw
  have e24 : cI t 24 (w + 2) = nI (aT W).length := by rw [h.tm.len, tSo_len]
  unfold fX1_timed
  simp only [gd_tr, letv_e, rv_e, onul_n, onul_s, ob_e, sI_I, sI_K, sI_L, sI_R, sI_n, sI_z, sR_R, sR_K, sR_L, sR_I, sR_n, sR_z, sN_n, sN_z, true_and, and_true, if_true, and_self, fw, e24]
  by_cases c : (aT W).length = 10
  · refine ok_ift (by rw [c]) ?_
    rw [if_neg (by omega)]
    exact ok_some ((Po.rf h).le (by omega) (by omega))
  · refine ok_iff (nI_ne c (by omega) (by omega)) ?_
    rw [if_pos (by omega)]
    have f1 : Fr (fun _ => False) t (sLR t 35 y) := fr_nR (fr_sN h.wf) (Nat.le_refl _)
    have k35 : cK (sLR t 35 y) (cn t) = 35 := by
      show cK (sN t 35 0 1) (cn t) = 35
      rw [sN_K, if_pos rfl]
    have c901 : cR (sLR t 35 y) 901 (cn t) = some y := by
      unfold sLR
      rw [sR_R, if_pos ⟨rfl, rfl⟩]
    have en : cn (sLR t 35 y) = cn t + 1 := rfl
    have ez : cz (sLR t 35 y) = cz t + 1 := rfl
    have h1 := h.fr0 f1
    have hy1 := Vt_st _ _ _ _ _ h.wf f1 hy
    have hk1 := h.k0 f1
    generalize sLR t 35 y = t1 at f1 k35 c901 en ez h1 hy1 hk1 ⊢
    refine ok_gd h1.fw.2.2.2.2.2.2.1 ?_
    obtain ⟨cs, q1, q2⟩ := h1.tm
    have lq : cs.length = (aT W).length := by rw [← List.length_map Prod.snd, q2.len, tSo_len]
    refine ok_ob (qr_putsAhead (x := y) (pr := cn t) (p := fun d => decide (v.2.1 < cI t1 60 d.2)) q1 h1.wf (by omega) (h1.up _ (Nat.le_refl _)) (fun t2 f2 d hd => ?_)) (fun _ t2 z => ?_)
    · obtain ⟨u, hu, k⟩ := Al.ex q2 d.2 (List.mem_map_of_mem hd)
      obtain ⟨e1, e2, e3, e4⟩ := f2.immK h1.wf k35 (by decide) rfl
      rw [is_due (e1.trans k35) ((e4 901).trans c901) (Vt_st _ _ _ _ _ h1.wf f2 hy1) (Vt_st _ _ _ _ _ h1.wf f2 k), k.2.2.1]
    · obtain ⟨⟨B, C, eBC, hB, hC, r2⟩, f2, e1, e2⟩ := z
      have hv : Qv P t2 (w + 2) (nI 10) (Vt t2) (tSo (aT W ++ [v])) := by
        refine ⟨_, r2, ?_⟩
        rw [tSo_snoc]
        -- split the values as the cells
        have q3 := Al.map.mp (q2.st Vt_st h1.wf f2)
        rw [eBC] at q3
        have sp : ∀ (B : List (Nat × Nat)) (xs : List (Int32 × Int32 × Int32)), Al (fun c x => Vt t2 c.2 x) (B ++ C) xs → ∃ X Y, xs = X ++ Y ∧ Al (fun c x => Vt t2 c.2 x) B X ∧ Al (fun c x => Vt t2 c.2 x) C Y := by
          intro B
          induction B with
          | nil => exact fun xs h => ⟨[], xs, rfl, trivial, h⟩
          | cons b B ih =>
            intro xs h
            cases xs with
            | nil => exact h.elim
            | cons y xs =>
              obtain ⟨X, Y, z1, z2, z3⟩ := ih xs h.2
              exact ⟨y :: X, Y, by rw [z1]; rfl, ⟨h.1, z2⟩, z3⟩
        obtain ⟨X, Y, e3, a1, a2⟩ := sp B _ q3
        have v60 : ∀ d ∈ cs, cI t2 60 d.2 = cI t1 60 d.2 := fun d hd => by
          obtain ⟨u, hu, k⟩ := Al.ex q2 d.2 (List.mem_map_of_mem hd)
          rw [k.2.2.1, (Vt_st _ _ _ _ _ h1.wf f2 k).2.2.1]
        have hX : ∀ u ∈ X, ¬ v.2.1 < u.2.1 := by
          have : ∀ (B : List (Nat × Nat)) (X : List (Int32 × Int32 × Int32)), Al (fun c x => Vt t2 c.2 x) B X → (∀ d ∈ B, d ∈ cs ∧ decide (v.2.1 < cI t1 60 d.2) = false) → ∀ u ∈ X, ¬ v.2.1 < u.2.1 := by
            intro B
            induction B with
            | nil =>
              intro X h _ u hu
              cases X with
              | nil => cases hu
              | cons _ _ => exact h.elim
            | cons b B ih =>
              intro X h hb u hu
              cases X with
              | nil => cases hu
              | cons y X =>
                rcases List.mem_cons.mp hu with e | e
                · subst e
                  obtain ⟨g1, g2⟩ := hb b List.mem_cons_self
                  have := h.1.2.2.1
                  rw [v60 b g1] at this
                  rw [← this]
                  exact of_decide_eq_false g2
                · exact ih X h.2 (fun d hd => hb d (List.mem_cons_of_mem _ hd)) u e
          exact this B X a1 (fun d hd => ⟨by rw [eBC]; exact List.mem_append_left _ hd, hB d hd⟩)
        have hY : ∀ b, Y.head? = some b → v.2.1 < b.2.1 := fun b hb => by
          cases C with
          | nil =>
            cases Y with
            | nil => cases hb
            | cons _ _ => exact a2.elim
          | cons d C =>
            cases Y with
            | nil => cases hb
            | cons u Y =>
              cases hb
              have g := hC d rfl
              have := a2.1.2.2.1
              rw [v60 d (by rw [eBC]; exact List.mem_append_right _ List.mem_cons_self)] at this
              rw [← this]
              exact of_decide_eq_true g
        rw [e3, tIns_split hX hY, List.map_append, List.map_cons]
        exact Al.app (l' := y :: C.map Prod.snd) (m' := v :: Y) ⟨Vt_st _ _ _ _ _ h1.wf f2 hy1, Al.map.mpr a2⟩ (Al.map.mpr a1)
      have eP : Ph (uT W (aT W ++ [v])) = Ph W := Ph_eq rfl (fun _ _ => ⟨rfl, rfl⟩)
      have k2 := h1.k2 q1 f2
      refine ok_some ⟨h1.frT q1 f2 hv, (f1.mono (fun _ _ z => z.elim)).then (Fr.ofQ q1 f2), ⟨k2.1.trans hk1.1, k2.2.trans hk1.2⟩, by omega, by omega⟩
theorem cw_delays (h : CW P t w A W) (hi : i < aN W) (ht : (aT W).length ≤ 10) (hx : Mo t x m) : Ok (fX3_delays (w + 4) (some (A i)) (some x) t) (fun _ t' => Po P w A t t' W (if 0 < m.2 ∧ (aT W).length < 10 then uT W (aT W ++ [(nI i, aG W 0 + nI 1 + irm m.2 (nI 8), m.2 - nI 1)]) else W) 3 7) := by
  have fw := h.fw
  have fa := h.fa hi
  obtain ⟨x1, x2, x3⟩ := hx
  have hxl : x < cn t := h.wf.lt (by rw [x1]; decide)
  have hal := h.lt fa.2.2.1 (by decide)
  have hwl := h.lt fw.1 (by decide)
  have h4l := h.lt fw.2.2.2.2.2.2.2.1 (by decide)
  unfold fX3_delays
  simp only [gd_tr, letv_e, rv_e, onul_n, onul_s, ob_e, sI_I, sI_K, sI_L, sI_R, sI_n, sI_z, sR_R, sR_K, sR_L, sR_I, sR_n, sR_z, sN_n, sN_z, true_and, and_true, if_true, and_self, fw, x1, x3]
  by_cases c : 0 < m.2
  · refine ok_ift c ?_
    have f1 : Fr (fun _ => False) t (sN t 13 0 3) := fr_sN h.wf
    have h1 := h.fr0 f1
    have fw1 := h1.fw
    have fa1 := h1.fa hi
    have g1 : cK (sN t 13 0 3) x = 6 ∧ cI (sN t 13 0 3) 44 x = m.2 := ⟨by rw [sN_K, if_neg (by omega)]; exact x1, by rw [sN_I, if_neg (by omega)]; exact x3⟩
    have e10 : cI (sN t 13 0 3) 10 w = aG W 0 := h1.w1.2.1.2.2.2.1
    simp only [gd_tr, letv_e, rv_e, onul_n, onul_s, ob_e, sI_I, sI_K, sI_L, sI_R, sI_n, sI_z, sR_R, sR_K, sR_L, sR_I, sR_n, sR_z, sN_n, sN_z, true_and, and_true, if_true, and_self, fw1, fa1, g1, e10]
    have k13 : cK (sN t 13 0 3) (cn t) = 13 := by rw [sN_K, if_pos rfl]
    have e15 : ∀ a b c, fX15_init (cn t) a b c (sN t 13 0 3) = some ((), sI (sI (sI (sN t 13 0 3) 59 (cn t) a) 60 (cn t) b) 61 (cn t) c) := fun a b c => by
      unfold fX15_init
      simp only [gd_tr, letv_e, rv_e, onul_n, onul_s, ob_e, sI_I, sI_K, sI_L, sI_R, sI_n, sI_z, sR_R, sR_K, sR_L, sR_I, sR_n, sR_z, sN_n, sN_z, true_and, and_true, if_true, and_self, k13]
    refine ok_obE (e15 _ _ _) ?_
    have f2 : Fr (fun _ => False) t (sI (sI (sI (sN t 13 0 3) 59 (cn t) (nI i)) 60 (cn t) (aG W 0 + nI 1 + irm m.2 (nI 8))) 61 (cn t) (m.2 - nI 1)) := fr_nI (fr_nI (fr_nI f1 (Nat.le_refl _)) (Nat.le_refl _)) (Nat.le_refl _)
    have hv : Vt (sI (sI (sI (sN t 13 0 3) 59 (cn t) (nI i)) 60 (cn t) (aG W 0 + nI 1 + irm m.2 (nI 8))) 61 (cn t) (m.2 - nI 1)) (cn t) (nI i, aG W 0 + nI 1 + irm m.2 (nI 8), m.2 - nI 1) := by
      refine ⟨k13, ?_, ?_, ?_⟩
      · rw [sI_I, if_neg (by omega), sI_I, if_neg (by omega), sI_I, if_pos ⟨rfl, rfl⟩]
      · rw [sI_I, if_neg (by omega), sI_I, if_pos ⟨rfl, rfl⟩]
      · rw [sI_I, if_pos ⟨rfl, rfl⟩]
    have p2 : Po P w A t (sI (sI (sI (sN t 13 0 3) 59 (cn t) (nI i)) 60 (cn t) (aG W 0 + nI 1 + irm m.2 (nI 8))) 61 (cn t) (m.2 - nI 1)) W W 1 3 := Po.ne h f2 (Nat.le_refl _) (Nat.le_refl _)
    generalize sI (sI (sI (sN t 13 0 3) 59 (cn t) (nI i)) 60 (cn t) (aG W 0 + nI 1 + irm m.2 (nI 8))) 61 (cn t) (m.2 - nI 1) = t2 at hv p2 ⊢
    refine ok_gd p2.1.fw.1 ?_
    refine ok_ob (cw_timed p2.1 ht hv) (fun _ t3 p3 => ?_)
    have p := p2.trans p3
    by_cases c2 : (aT W).length < 10
    · rw [if_pos c2] at p
      rw [if_pos ⟨c, c2⟩]
      exact ok_some (p.le (by omega) (by omega))
    · rw [if_neg c2] at p
      rw [if_neg (fun z => c2 z.2)]
      exact ok_some (p.le (by omega) (by omega))
  · refine ok_iff c ?_
    rw [if_neg (fun z => c z.1)]
    exact ok_some ((Po.rf h).le (by omega) (by omega))
end CDE
