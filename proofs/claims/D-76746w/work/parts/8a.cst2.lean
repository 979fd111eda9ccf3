/-! THE COMPONENT: one stops, with those below -/
section CST2
variable {P : Nat → Prop} {t t' : cS} {w i j x : Nat} {A : Nat → Nat} {W : aW}
/-- an actor's int -/
theorem cw_set {f : Nat} {y : Int32} {W' : aW} (h : CW P t w A W) (hi : i < aN W) (n : aN W' = aN W ∧ aG W' = aG W ∧ aT W' = aT W ∧ aO W' = aO W ∧ aC W' = aC W ∧ (∀ j, j ≠ i → aF W' j = aF W j ∧ aL W' j = aL W j) ∧ ∀ k, k ≠ 0 → aL W' i k = aL W i k) (h1 : cA1 P (sI t f (A i) y) (A i) i (aF W' i) (aL W' i 0).length) (h2 : ∀ j q, (aL W' i 0)[j]? = some q → cI t (ei j) (A i + 1) = q.1) : Po P w A t (sI t f (A i) y) W W' 0 0 := by
  have a1 := (h.act hi).1
  have m : cMut (cK t (A i)) = true := by rw [a1.1.1]; rfl
  have fr : Fr (fun y => y = A i) t (sI t f (A i) y) := fr_sI h.wf rfl m
  have eP : Ph W' = Ph W := Ph_eq n.1 (fun b _ => by
    by_cases c : b = i
    · rw [c]; exact ⟨n.2.2.2.2.2.2 2 (by decide), n.2.2.2.2.2.2 3 (by decide)⟩
    · rw [(n.2.2.2.2.2.1 b c).2]; exact ⟨rfl, rfl⟩)
  refine ⟨h.frA hi fr n h1 h2, fr.mono (fun y _ e => by rw [e]; exact a1.1.2), h.kx a1.1.1 (by decide) fr, ?_, ?_⟩
  · rw [eP]; exact Nat.le_refl _
  · rw [eP]; exact Nat.le_refl _
theorem Po.a5 {y : Int32} (h : CW P t w A W) (hi : i < aN W) : Po P w A t (sI t 33 (A i) y) W (uF W i 5 y) 0 0 := by
  obtain ⟨⟨k1, k2⟩, ⟨b1, b2, b3, b4, b5, b6, b7, b8, b9⟩, c⟩ := (h.act hi).1
  have e : ∀ f, f ≠ 5 → aF (uF W i 5 y) i f = aF W i f := fun f hf => by rw [uF_F, if_neg (fun z => hf z.2)]
  have e5 : aF (uF W i 5 y) i 5 = y := by rw [uF_F, if_pos ⟨rfl, rfl⟩]
  have g : ∀ f, f ≠ 33 → cI (sI t 33 (A i) y) f (A i) = cI t f (A i) := fun f hf => by rw [sI_I, if_neg (fun z => hf z.1)]
  refine cw_set h hi ⟨rfl, rfl, rfl, rfl, rfl, fun j hj => ⟨funext fun f => by rw [uF_F, if_neg (fun z => hj z.1)], rfl⟩, fun _ _ => rfl⟩ ⟨⟨k1, k2⟩, ⟨?_, ?_, ?_, ?_, ?_, ?_, ?_, ?_, ?_⟩, ?_⟩ (fun j q hq => (h.act hi).2.1.2 j q hq)
  · rw [g 26 (by decide)]; exact b1
  · rw [g 27 (by decide), e 0 (by decide)]; exact b2
  · rw [g 28 (by decide), e 1 (by decide)]; exact b3
  · rw [g 29 (by decide), e 2 (by decide)]; exact b4
  · rw [g 31 (by decide), e 3 (by decide)]; exact b5
  · rw [g 32 (by decide), e 4 (by decide)]; exact b6
  · rw [sI_I, if_pos ⟨rfl, rfl⟩, e5]
  · rw [g 34 (by decide), e 6 (by decide)]; exact b8
  · rw [g 36 (by decide)]; exact b9
  · rw [e 2 (by decide)]; exact c
theorem Po.a6 {y : Int32} (h : CW P t w A W) (hi : i < aN W) : Po P w A t (sI t 34 (A i) y) W (uF W i 6 y) 0 0 := by
  obtain ⟨⟨k1, k2⟩, ⟨b1, b2, b3, b4, b5, b6, b7, b8, b9⟩, c⟩ := (h.act hi).1
  have e : ∀ f, f ≠ 6 → aF (uF W i 6 y) i f = aF W i f := fun f hf => by rw [uF_F, if_neg (fun z => hf z.2)]
  have e5 : aF (uF W i 6 y) i 6 = y := by rw [uF_F, if_pos ⟨rfl, rfl⟩]
  have g : ∀ f, f ≠ 34 → cI (sI t 34 (A i) y) f (A i) = cI t f (A i) := fun f hf => by rw [sI_I, if_neg (fun z => hf z.1)]
  refine cw_set h hi ⟨rfl, rfl, rfl, rfl, rfl, fun j hj => ⟨funext fun f => by rw [uF_F, if_neg (fun z => hj z.1)], rfl⟩, fun _ _ => rfl⟩ ⟨⟨k1, k2⟩, ⟨?_, ?_, ?_, ?_, ?_, ?_, ?_, ?_, ?_⟩, ?_⟩ (fun j q hq => (h.act hi).2.1.2 j q hq)
  · rw [g 26 (by decide)]; exact b1
  · rw [g 27 (by decide), e 0 (by decide)]; exact b2
  · rw [g 28 (by decide), e 1 (by decide)]; exact b3
  · rw [g 29 (by decide), e 2 (by decide)]; exact b4
  · rw [g 31 (by decide), e 3 (by decide)]; exact b5
  · rw [g 32 (by decide), e 4 (by decide)]; exact b6
  · rw [g 33 (by decide), e 5 (by decide)]; exact b7
  · rw [sI_I, if_pos ⟨rfl, rfl⟩, e5]
  · rw [g 36 (by decide)]; exact b9
  · rw [e 2 (by decide)]; exact c
/-- the stack gets shorter -/
theorem Po.a0 {n : Nat} (h : CW P t w A W) (hi : i < aN W) (hn : n ≤ (aL W i 0).length) : Po P w A t (sI t 36 (A i) (nI n)) W (uL W i 0 ((aL W i 0).take n)) 0 0 := by
  obtain ⟨⟨k1, k2⟩, ⟨b1, b2, b3, b4, b5, b6, b7, b8, b9⟩, c⟩ := (h.act hi).1
  have g : ∀ f, f ≠ 36 → cI (sI t 36 (A i) (nI n)) f (A i) = cI t f (A i) := fun f hf => by rw [sI_I, if_neg (fun z => hf z.1)]
  have e0 : aL (uL W i 0 ((aL W i 0).take n)) i 0 = (aL W i 0).take n := by rw [uL_L, if_pos ⟨rfl, rfl⟩]
  refine cw_set h hi ⟨rfl, rfl, rfl, rfl, rfl, fun j hj => ⟨rfl, funext fun f => by rw [uL_L, if_neg (fun z => hj z.1)]⟩, fun k hk => by rw [uL_L, if_neg (fun z => hk z.2)]⟩ ⟨⟨k1, k2⟩, ⟨?_, ?_, ?_, ?_, ?_, ?_, ?_, ?_, ?_⟩, c⟩ (fun j q hq => ?_)
  · rw [g 26 (by decide)]; exact b1
  · rw [g 27 (by decide)]; exact b2
  · rw [g 28 (by decide)]; exact b3
  · rw [g 29 (by decide)]; exact b4
  · rw [g 31 (by decide)]; exact b5
  · rw [g 32 (by decide)]; exact b6
  · rw [g 33 (by decide)]; exact b7
  · rw [g 34 (by decide)]; exact b8
  · rw [sI_I, if_pos ⟨rfl, rfl⟩, e0, List.length_take, Nat.min_eq_left hn]
  · rw [e0] at hq
    refine (h.act hi).2.1.2 j q ?_
    have := (List.getElem?_eq_some_iff.mp hq).1
    rw [List.length_take] at this
    rw [List.getElem?_take, if_pos (by omega)] at hq
    exact hq
theorem cw_below {rc_ : Nat → Option Nat → cS → Option (Unit × cS)} {f : aW → Nat → aW} {tm a n : Nat} {kx : cS → Option (Unit × cS)} {Q : Unit → cS → Prop} (hm : ∀ w a, aM w (f w a)) (hI : ∀ w a, aI w tm → a < aN w → aN w ≤ a + n → aI (f w a) tm ∧ aF (f w a) a 5 = nI 0)
    (hrec : ∀ (W : aW) (c : Nat) (t : cS), CW P t w A W → aI W tm → c < aN W → aN W ≤ c + n → Ok (rc_ w (some (A c)) t) (fun _ t' => Po P w A t t' W (f W c) 0 0)) : ∀ (i fuel : Nat) (W : aW) (t : cS), i < fuel → CW P t w A W → aI W tm → i ≤ aN W → a < aN W → aN W ≤ a + 1 + n →
    (∀ t' : cS, Po P w A t t' W (aBelowN f a i W) 0 0 → Ok (kx t') Q) → Ok (fX1_stopsBelow_L7 rc_ w (some (A a)) kx fuel (nI i - nI 1) t) Q := by
  intro i
  induction i with
  | zero =>
    intro fuel W t hf h hi hN2 ha hn k
    obtain ⟨fuel, rfl⟩ : ∃ n, fuel = n + 1 := ⟨fuel - 1, by omega⟩
    rw [fX1_stopsBelow_L7]
    refine ok_ift (by decide) ?_
    exact k t (Po.rf h)
  | succ i ih =>
    intro fuel W t hf h hi hN2 ha hn k
    have hN : aN W ≤ 12 := h.sp.1
    obtain ⟨fuel, rfl⟩ : ∃ n, fuel = n + 1 := ⟨fuel - 1, by omega⟩
    have fw := h.fw
    have fi := h.fa (i := i) (by omega)
    have fa := h.fa ha
    rw [fX1_stopsBelow_L7, nI_sub (by omega), Nat.add_sub_cancel]
    refine ok_iff (by show ¬ nI i < nI 0; exact nI_nlt (Nat.zero_le _) (by omega)) ?_
    simp only [gd_tr, letv_e, rv_e, onul_n, onul_s, ob_e, sI_I, sI_K, sI_L, sI_R, sI_n, sI_z, sR_R, sR_K, sR_L, sR_I, sR_n, sR_z, sN_n, sN_z, true_and, and_true, if_true, and_self, cIn, fw, fi, fa, not_false_eq_true, jn]
    unfold aBelowN at k
    have go : ∀ (W' : aW) (t1 : cS), Po P w A t t1 W W' 0 0 → aI W' tm → aN W' = aN W → (∀ t', Po P w A t t' W (aBelowN f a i W') 0 0 → Ok (kx t') Q) → Ok (fX1_stopsBelow_L7 rc_ w (some (A a)) kx fuel (nI i + (-1 : Int32)) t1) Q := by
      intro W' t1 p1 i1 e1 k1
      rw [nI_m1]
      exact ih fuel W' t1 (by omega) p1.1 i1 (by omega) (by omega) (by omega) (fun t' z => k1 t' (p1.trans z))
    by_cases c0 : aF W i 0 = nI a
    · refine ok_ift c0 ?_
      rcases hi.live (a := i) (by omega) with c5 | c5
      · refine ok_ift (by rw [c5]; rfl) ?_
        rw [if_neg (fun z => by rw [c5] at z; exact absurd z.2 (by decide))] at k
        exact go W t (Po.rf h) hi rfl k
      · refine ok_iff (by rw [c5]; decide) ?_
        rw [if_pos ⟨c0, c5⟩] at k
        have hai : a < i := hi.child (by omega) (by omega) c0
        refine ok_ob (hrec W i t h hi (by omega) (by omega)) (fun _ t1 z => ?_)
        exact go (f W i) t1 z (hI W i hi (by omega) (by omega)).1 (hm W i).1 k
    · refine ok_iff c0 ?_
      rw [if_neg (fun z => c0 z.1)] at k
      exact go W t (Po.rf h) hi rfl k
theorem uL_self (W : aW) (i k : Nat) : uL W i k (aL W i k) = W := aW_ext rfl (fun _ _ => rfl) (fun a l => by
  rw [uL_L]
  by_cases c : a = i ∧ l = k
  · rw [if_pos c, c.1, c.2]
  · rw [if_neg c]) (fun _ => rfl) rfl rfl rfl
theorem aUnwI_0 (W : aW) (i : Nat) : aUnwI W i 0 = W := aW_ext rfl (fun _ _ => rfl) (fun a l => by
  show (if l = 3 ∧ a < 0 then _ else _) = _
  rw [if_neg (by omega)]) (fun _ => rfl) rfl rfl rfl
theorem cw_stops {tm : Nat} : ∀ (n : Nat) (W : aW) (a : Nat) (t : cS), CW P t w A W → aI W tm → a < aN W → aN W ≤ a + n → Ok (fX1_stops n w (some (A a)) t) (fun _ t' => Po P w A t t' W (aStop n W a) 0 0) := by
  intro n
  induction n with
  | zero => intro W a t h hi ha hn; omega
  | succ n ih =>
    intro W a t h hi ha hn
    have hN : aN W ≤ 12 := h.sp.1
    rw [fX1_stops]
    refine ok_gd h.fw.1 ?_
    have hch : Ok (fX1_stopsBelow (fX1_stops n) w (some (A a)) t) (fun _ t' => Po P w A t t' W (aBelow (aStop n) W a) 0 0) := by
      unfold fX1_stopsBelow
      simp only [gd_tr, letv_e, rv_e, onul_n, onul_s, ob_e, sI_I, sI_K, sI_L, sI_R, sI_n, sI_z, sR_R, sR_K, sR_L, sR_I, sR_n, sR_z, sN_n, sN_z, true_and, and_true, if_true, and_self, h.fw.1, h.fw.2.2.1]
      exact cw_below (aM_stop n) (aI_stop n) ih (aN W) FU W t (by unfold FU; omega) h hi (Nat.le_refl _) ha (by omega) (fun t' z => ok_some z)
    refine ok_ob hch (fun _ t1 p1 => ?_)
    have m1 := aM_below n W a
    obtain ⟨i1, d1⟩ := aI_belowN (n := n) (aM_stop n) (aI_stop n) (a := a) (by omega) (aN W) W hi (Nat.le_refl _) (by omega)
    have i1 : aI (aBelow (aStop n) W a) tm := i1
    have ha1 : a < aN (aBelow (aStop n) W a) := by rw [m1.1]; exact ha
    have d1 : ∀ c, c < aN (aBelow (aStop n) W a) → aF (aBelow (aStop n) W a) c 0 = nI a → ¬ aF (aBelow (aStop n) W a) c 5 = nI 1 := fun c hc e => d1 c (by rw [← m1.1]; exact hc) (by rw [← m1.2.1 c 0 (by decide)]; exact e)
    show Ok _ (fun _ t' => Po P w A t t' W (aGone (aBelow (aStop n) W a) a) 0 0)
    generalize aBelow (aStop n) W a = W1 at p1 i1 ha1 d1 ⊢
    have c1 := p1.1
    have hN1 : aN W1 ≤ 12 := c1.sp.1
    rw [rv_e]
    refine ok_gd (c1.fa ha1).2.2.1 (ok_letv ?_)
    have p2 := Po.a5 (y := nI 0) c1 ha1
    have c2 := p2.1
    have ha2 : a < aN (uF W1 a 5 (nI 0)) := ha1
    generalize sI t1 33 (A a) (nI 0) = t2 at p2 c2 ⊢
    have f2 := c2.fa ha2
    simp only [gd_tr, letv_e, rv_e, onul_n, onul_s, ob_e, sI_I, sI_K, sI_L, sI_R, sI_n, sI_z, sR_R, sR_K, sR_L, sR_I, sR_n, sR_z, sN_n, sN_z, true_and, and_true, if_true, and_self, f2]
    refine ok_ob (cw_empties (k := 1) c2 ha2 (by omega)) (fun _ t3 p3 => ?_)
    have c3 := p3.1
    have ha3 : a < aN (uL (uF W1 a 5 (nI 0)) a 1 []) := ha1
    have f3 := c3.fa ha3
    simp only [gd_tr, letv_e, rv_e, onul_n, onul_s, ob_e, sI_I, sI_K, sI_L, sI_R, sI_n, sI_z, sR_R, sR_K, sR_L, sR_I, sR_n, sR_z, sN_n, sN_z, true_and, and_true, if_true, and_self, f3]
    refine ok_ob (cw_empties (k := 2) c3 ha3 (by omega)) (fun _ t4 p4 => ?_)
    have c4 := p4.1
    have ha4 : a < aN (uL (uL (uF W1 a 5 (nI 0)) a 1 []) a 2 []) := ha1
    have f4 := c4.fa ha4
    have l0 : 1 ≤ (aL (uL (uL (uF W1 a 5 (nI 0)) a 1 []) a 2 []) a 0).length := by
      rw [uL_L, if_neg (by omega), uL_L, if_neg (by omega)]
      exact (i1.act ha1).2.1.1.1
    simp only [gd_tr, letv_e, rv_e, onul_n, onul_s, ob_e, sI_I, sI_K, sI_L, sI_R, sI_n, sI_z, sR_R, sR_K, sR_L, sR_I, sR_n, sR_z, sN_n, sN_z, true_and, and_true, if_true, and_self, f4]
    have p5 := Po.a0 (n := 1) c4 ha4 l0
    have c5 := p5.1
    have e0 : aL (uL (uL (uF W1 a 5 (nI 0)) a 1 []) a 2 []) a 0 = aL W1 a 0 := by rw [uL_L, if_neg (by omega), uL_L, if_neg (by omega)]; rfl
    generalize hW5 : uL (uL (uL (uF W1 a 5 (nI 0)) a 1 []) a 2 []) a 0 ((aL (uL (uL (uF W1 a 5 (nI 0)) a 1 []) a 2 []) a 0).take 1) = W5 at p5 c5
    have ha5 : a < aN W5 := by rw [← hW5]; exact ha1
    have hT5 : (aT W5).length ≤ 10 := by rw [← hW5]; exact i1.2.2.2.2.1.1
    generalize sI t4 36 (A a) (nI 1) = t5 at p5 c5 ⊢
    refine ok_ob (cw_empties (k := 4) c5 ha5 (by omega)) (fun _ t6 p6 => ?_)
    have c6 := p6.1
    have ha6 : a < aN (uL W5 a 4 []) := ha5
    refine ok_gd c6.fw.1 ?_
    refine ok_ob (cw_untimed c6 ha6 hT5) (fun _ t7 p7 => ?_)
    have c7 := p7.1
    have e7 : uT (uL W5 a 4 []) ((aT (uL W5 a 4 [])).filter fun x => !(x.1 == nI a)) = aForget (uL (uL (uF W1 a 5 (nI 0)) a 1 []) a 2 []) a := by
      rw [← hW5]
      rfl
    rw [e7] at p7 c7
    have is : aI (aStopped W1 a) tm := aI_stopped i1 ha1 d1
    have i7 : ∀ j, j < aN W1 → (aL (aForget (uL (uL (uF W1 a 5 (nI 0)) a 1 []) a 2 []) a) j 3).length ≤ 12 := fun j hj => by
      have e3 : aL (aForget (uL (uL (uF W1 a 5 (nI 0)) a 1 []) a 2 []) a) j 3 = aL W1 j 3 := by
        show aL (uL (uL (uL (uL (uF W1 a 5 (nI 0)) a 1 []) a 2 []) a 0 _) a 4 []) j 3 = _
        rw [uL_L, if_neg (by omega), uL_L, if_neg (by omega), uL_L, if_neg (by omega), uL_L, if_neg (by omega)]
        rfl
      rw [e3]
      have g := (i1.act hj).2.2.2.2.1
      have g1 : (aL W1 j 3).length ≤ aN W1 := by
        have h4 : (aL W1 j 3) ⊆ (List.range (aN W1)).map (fun j => (nI j, nI 0)) := fun q hq => by
          obtain ⟨l, hl, e⟩ := g.2 q hq
          exact List.mem_map.mpr ⟨l, List.mem_range.mpr hl, e.symm⟩
        have h5 := g.1.length_le_of_subset h4
        rw [List.length_map, List.length_range] at h5
        exact h5
      omega
    have hs3 : (aL (aStopped W1 a) a 3).length ≤ 12 := by
      have e : aL (aStopped W1 a) a 3 = (aL (aForget (uL (uL (uF W1 a 5 (nI 0)) a 1 []) a 2 []) a) a 3).filter (fun q => !(q.1 == nI a)) := by
        show (if (3 : Nat) = 3 ∧ a < aN W1 then _ else _) = _
        rw [if_pos ⟨rfl, ha1⟩]
      rw [e]
      exact Nat.le_trans (List.length_filter_le _ _) (i7 a ha1)
    refine cw_uw43 (W := aForget (uL (uL (uF W1 a 5 (nI 0)) a 1 []) a 2 []) a) (i := a) ha1 i7 (aN W1) 0 FU t7 (by unfold FU; omega) (by show 0 + aN W1 = aN W1; omega) (by rw [aUnwI_0]; exact c7) (fun t8 p8 => ?_)
    rw [aUnwI_0] at p8
    have p8 : Po P w A t7 t8 (aForget (uL (uL (uF W1 a 5 (nI 0)) a 1 []) a 2 []) a) (aStopped W1 a) 0 0 := p8
    have c8 := p8.1
    have eV : uL (uL (aStopped W1 a) a 3 []) a 3 (aL (aStopped W1 a) a 3) = aStopped W1 a := by rw [uL3_uL3]; exact uL_self _ _ _
    have iV : aI (uL (aStopped W1 a) a 3 []) tm := is.setL fun hq => (is.act hq).set3 List.nodup_nil (fun q hq => by cases hq)
    refine cw_told (tm := tm) (aL (aStopped W1 a) a 3) (uL (aStopped W1 a) a 3 []) FU t8 (by unfold FU; omega) hs3 (by rw [eV]; exact c8) iV ha1 (by rw [uL_L, if_pos ⟨rfl, rfl⟩]) (fun q hq => (is.act (a := a) ha1).2.2.2.2.1.2 q hq) (fun t9 p9 => ?_)
    rw [eV] at p9
    exact ok_some (p1.trans (p2.trans (p3.trans (p4.trans (p5.trans (p6.trans (p7.trans (p8.trans p9))))))))
end CST2
