/-! THE TWIN: a message dealt with -/
/-- after a deal -/
def dQ (t t' : tSt) (R : aW × Int32) : Prop := Rt (t' 0) R.1 ∧ ((R.2 = nI 0 ∧ t' 18 5 = t 18 5) ∨ (¬ R.2 = nI 0 ∧ t' 18 5 = nI 1 ∧ t' 4 1 = R.2)) ∧ t' 18 7 = t 18 7 ∧ t' 18 18 = t 18 18 ∧ tJ t t'
section X4F
variable {t : tSt} {w : aW} {a tm : Nat}
theorem dQ_K {t' : tSt} {w' : aW} (h : Rt (t' 0) w') (k : tK t t') : dQ t t' (w', nI 0) := ⟨h, Or.inl ⟨rfl, by rw [k 18 (by decide)]⟩, by rw [k 18 (by decide)], by rw [k 18 (by decide)], k.j⟩
theorem x4_failsD {why : Int32} {n : Nat} (hw : why = nI n) (hn : 0 < n ∧ n < 10) (h : Rt (t 0) w) (hI : aI w tm) (h9 : aI9 w 12) (ha : a < aN w) (hl : aF w a 5 = nI 1) : Ok (ob (fX4_fails (nI a) why t) (fun _ t' => some ((), t'))) (fun _ t' => dQ t t' ((aFails w a why 0).1, why)) := by
  refine ok_ob (x4_fails h hI h9 ha hl) (fun _ t1 h1 => ?_)
  obtain ⟨q1, q2, q3, q4, q5, q6, q7⟩ := h1
  refine ok_some ⟨?_, Or.inr ⟨?_, q3, q4⟩, q5, q6, q7⟩
  · show Rt (t1 0) (aFails w a why 0).1
    rw [aFails_b w a why 0 (t 18 6)]
    exact q1
  · show ¬ why = nI 0
    rw [hw]
    exact nI_ne (by omega) (by omega) (by omega)
theorem x4_holds {m : Int32 × Int32} (h : Rt (t 0) w) (hI : aI w tm) (h9 : aI9 w 12) (ha : a < aN w) (hl : aF w a 5 = nI 1) : Ok (fX4_holds (nI a) m.1 m.2 t) (fun _ t' => dQ t t' (if irm m.2 (nI 2) = 0 then (aBack w a, nI 0) else if (aL w a 2).length = 6 then ((aFails w a (nI 3) 0).1, nI 3) else (uL w a 2 (aL w a 2 ++ [m]), nI 0))) := by
  have hN := h.n12
  unfold fX4_holds
  by_cases c : irm m.2 (nI 2) = 0
  · refine ok_ift c ?_
    rw [if_pos c]
    exact ok_ob (x4_comesBack h ha) (fun _ t1 h1 => ok_some (dQ_K h1.1 h1.2))
  · refine ok_iff c ?_
    rw [if_neg c]
    have e2 : t 0 (77 * a + 38) = nI (aL w a 2).length := h.len ha 2 (by decide)
    have hc : (aL w a 2).length ≤ 6 := h.cap ha 2 (by decide)
    refine ok_obE (x4_atE (f := 38) rfl (by omega) e2) ?_
    by_cases c2 : (aL w a 2).length = 6
    · refine ok_ift (by rw [c2]) ?_
      rw [if_pos c2]
      exact x4_failsD (n := 3) rfl (by omega) h hI h9 ha hl
    · refine ok_iff (nI_ne c2 (by omega) (by omega)) ?_
      rw [if_neg c2]
      refine ok_obE (x4_atE (f := 38) rfl (by omega) e2) ?_
      refine ok_obE (x4_sets (f := 39 + 2 * (aL w a 2).length) (by rw [nI_mul, nI_add]) (by omega)) ?_
      refine ok_obE (x4_sets (f := 39 + 2 * (aL w a 2).length + 1) (by rw [nI_mul, nI_add, nI_add]) (by omega)) ?_
      refine ok_obE (x4_sets (f := 38) rfl (by omega)) ?_
      refine ok_some (dQ_K ?_ (tK.trans (tK.trans tK_tup tK_tup) tK_tup))
      refine h.setL ha (k := 2) (by decide) (fun i hi => ?_) (sRow_push (h.row ha 2 (by decide)) (by show (aL w a 2).length < 6; omega) ?_ ?_ (fun _ => ?_) (fun i i1 i2 => ?_))
      · have hi : i < 77 * a + 38 ∨ 77 * a + 38 + 13 ≤ i := hi
        rw [tup_0, tup_0, tup_0, if_neg (by omega), if_neg (by omega), if_neg (by omega)]
      · show tup _ 0 (77 * a + 38) _ 0 (77 * a + 38) = _
        rw [tup_0, if_pos rfl, nI_add]
      · show tup (tup (tup t 0 (77 * a + (39 + 2 * (aL w a 2).length)) _) 0 (77 * a + (39 + 2 * (aL w a 2).length + 1)) _) 0 (77 * a + 38) _ 0 (77 * a + 38 + 1 + 2 * (aL w a 2).length) = _
        rw [tup_0, tup_0, tup_0, if_neg (by omega), if_neg (by omega), if_pos (by omega)]
      · show tup (tup (tup t 0 (77 * a + (39 + 2 * (aL w a 2).length)) _) 0 (77 * a + (39 + 2 * (aL w a 2).length + 1)) _) 0 (77 * a + 38) _ 0 (77 * a + 38 + 2 + 2 * (aL w a 2).length) = _
        rw [tup_0, tup_0, if_neg (by omega), if_pos (by omega)]
      · have i1 : 77 * a + 38 < i := i1
        have i2 : i < 77 * a + 38 + 1 + 2 * (aL w a 2).length := i2
        rw [tup_0, tup_0, tup_0, if_neg (by omega), if_neg (by omega), if_neg (by omega)]
theorem x4_switches {n : Int32} (h : Rt (t 0) w) (hI : aI w tm) (h9 : aI9 w 12) (ha : a < aN w) (hl : aF w a 5 = nI 1) : Ok (fX4_switches (nI a) n t) (fun _ t' => dQ t t' (if n < 0 then (uL w a 0 (if 1 < (aL w a 0).length then (aL w a 0).dropLast else aL w a 0), nI 0) else if (aL w a 0).length = 5 then ((aFails w a (nI 4) 0).1, nI 4) else (uL w a 0 (aL w a 0 ++ [(irm n (nI 10), nI 0)]), nI 0))) := by
  have hN := h.n12
  have e7 : t 0 (77 * a + 7) = nI (aL w a 0).length := h.len ha 0 (by decide)
  have hc : (aL w a 0).length ≤ 5 := h.cap ha 0 (by decide)
  have h1 : 1 ≤ (aL w a 0).length := (hI.act ha).2.1.1.1
  unfold fX4_switches
  refine ok_obE (x4_atE (f := 7) rfl (by omega) e7) ?_
  by_cases c : n < 0
  · refine ok_ift c ?_
    rw [if_pos c]
    refine ok_jn ?_
    have key : ∀ k, k ≤ (aL w a 0).length → Ok (ob (fX4_sets (nI a) (nI 7) (nI k) t) (fun r6 t7 => some ((), t7))) (fun _ t' => dQ t t' (uL w a 0 ((aL w a 0).take k), nI 0)) := by
      intro k hk
      refine ok_obE (x4_sets (f := 7) rfl (by omega)) ?_
      refine ok_some (dQ_K (h.setL ha (k := 0) (by decide) (fun i hi => ?_) ⟨?_, ?_, fun i p hp => ⟨?_, fun q => absurd q (by decide)⟩⟩) tK_tup)
      · have hi : i < 77 * a + 7 ∨ 77 * a + 7 + 6 ≤ i := hi
        rw [tup_0, if_neg (by omega)]
      · show tup _ 0 (77 * a + 7) _ 0 (77 * a + 7) = _
        rw [tup_0, if_pos rfl, List.length_take, Nat.min_eq_left hk]
      · rw [List.length_take]
        show min _ _ ≤ 5
        omega
      · show tup _ 0 (77 * a + 7) _ 0 (77 * a + 7 + 1 + 1 * i) = _
        rw [tup_0, if_neg (by omega)]
        have hi : i < k := by
          have := (List.getElem?_eq_some_iff.mp hp).1
          rw [List.length_take] at this
          omega
        rw [List.getElem?_take, if_pos hi] at hp
        exact ((h.row ha 0 (by decide)).2.2 i p hp).1
    by_cases c2 : 1 < (aL w a 0).length
    · refine ok_ift (nI_lt c2 (by omega)) ?_
      rw [if_pos c2, nI_sub (by omega), List.dropLast_eq_take]
      exact key _ (by omega)
    · refine ok_iff (nI_nlt (by omega) (by omega)) ?_
      rw [if_neg c2]
      have := key 1 (by omega)
      rw [List.take_of_length_le (by omega)] at this
      exact this
  · refine ok_iff c ?_
    rw [if_neg c]
    by_cases c2 : (aL w a 0).length = 5
    · refine ok_ift (by rw [c2]) ?_
      rw [if_pos c2]
      exact x4_failsD (n := 4) rfl (by omega) h hI h9 ha hl
    · refine ok_iff (nI_ne c2 (by omega) (by omega)) ?_
      rw [if_neg c2]
      refine ok_obE (x4_sets (f := 8 + (aL w a 0).length) (by rw [nI_add]) (by omega)) ?_
      refine ok_obE (x4_sets (f := 7) rfl (by omega)) ?_
      refine ok_some (dQ_K ?_ (tK.trans tK_tup tK_tup))
      refine h.setL ha (k := 0) (by decide) (fun i hi => ?_) (sRow_push (h.row ha 0 (by decide)) (by show (aL w a 0).length < 5; omega) ?_ ?_ (fun z => absurd z (by decide)) (fun i i1 i2 => ?_))
      · have hi : i < 77 * a + 7 ∨ 77 * a + 7 + 6 ≤ i := hi
        rw [tup_0, if_neg (by omega), tup_0, if_neg (by omega)]
      · show tup _ 0 (77 * a + 7) _ 0 (77 * a + 7) = _
        rw [tup_0, if_pos rfl, nI_add]
      · show tup _ 0 (77 * a + 7) _ 0 (77 * a + 7 + 1 + 1 * (aL w a 0).length) = _
        rw [tup_0, if_neg (by omega), tup_0, if_pos (by omega)]
      · have i1 : 77 * a + 7 < i := i1
        have i2 : i < 77 * a + 7 + 1 + 1 * (aL w a 0).length := i2
        rw [tup_0, if_neg (by omega), tup_0, if_neg (by omega)]
theorem x4_deals {m : Int32 × Int32} (h : Rt (t 0) w) (hI : aI w tm) (h9 : aI9 w 12) (ha : a < aN w) (hl : aF w a 5 = nI 1) (hm : mOk (aN w) m) : Ok (fX4_deals (nI a) m.1 m.2 t) (fun _ t' => dQ t t' (aDeal w a m)) := by
  have hN := h.n12
  have e6 : t 0 (77 * a + 6) = aF w a 6 := h.fld ha (by decide)
  obtain ⟨l, b, -, hb, ed⟩ := hI.stk ha
  have set6 : ∀ x, Ok (ob (fX4_sets (nI a) (nI 6) x t) (fun r5 t6 => some ((), t6))) (fun _ t' => dQ t t' (uF w a 6 x, nI 0)) := fun x => by
    refine ok_obE (x4_sets (f := 6) rfl (by omega)) ?_
    exact ok_some (dQ_K (h.setF ha (by decide) (fun i => tup_0 t _ _ i)) tK_tup)
  unfold fX4_deals
  refine ok_obE (x4_doing h hI ha) ?_
  by_cases d : m.2 < nI 1000
  · refine ok_ift d ?_
    obtain ⟨m1, m2, m3⟩ := mOk_lt hm hN d
    have cs : b = 0 ∨ b = 1 ∨ b = 2 ∨ b = 3 ∨ b = 4 ∨ b = 5 ∨ b = 6 ∨ b = 7 ∨ b = 8 ∨ b = 9 := by omega
    rw [ed]
    rcases cs with rfl | rfl | rfl | rfl | rfl | rfl | rfl | rfl | rfl | rfl
    · refine ok_swH rfl ?_
      rw [aDeal_0 d ed]
      refine ok_obE (x4_atE (f := 6) rfl (by omega) e6) ?_
      exact set6 _
    · refine ok_swT (by decide) (ok_swH rfl ?_)
      rw [aDeal_1 d ed]
      unfold fX4_pass
      exact ok_ob (x4_pass (all := false) (aN w) 0 FU w t (by unfold FU; omega) (by omega) ha h) (fun _ t1 h1 => ok_some (dQ_K h1.1 h1.2))
    · refine ok_swT (by decide) (ok_swT (by decide) (ok_swH rfl ?_))
      rw [aDeal_2 d ed]
      by_cases c : 0 < m.2
      · refine ok_ift c ?_
        by_cases c2 : m.1 < 0
        · refine ok_ift c2 ?_
          rw [if_neg (fun q => q.2 c2)]
          exact ok_some (dQ_K h (tK.rf t))
        · refine ok_iff c2 ?_
          rw [if_pos ⟨c, c2⟩]
          rcases m1 with q | ⟨j, hj, q⟩
          · rw [q] at c2
            exact absurd (by decide) c2
          · rw [q, nI_clamp (by omega)]
            exact ok_ob (x4_sends h hj) (fun _ t1 h1 => ok_some (dQ_K h1.2.1 h1.2.2.1))
      · refine ok_iff c ?_
        rw [if_neg (fun q => c q.1)]
        exact ok_some (dQ_K h (tK.rf t))
    · refine ok_swT (by decide) (ok_swT (by decide) (ok_swT (by decide) (ok_swH rfl ?_)))
      rw [aDeal_3 d ed]
      exact ok_ob (x4_holds h hI h9 ha hl) (fun _ t1 h1 => ok_some h1)
    · refine ok_swT (by decide) (ok_swT (by decide) (ok_swT (by decide) (ok_swT (by decide) (ok_swH rfl ?_))))
      rw [aDeal_4 d ed]
      exact ok_ob (x4_switches h hI h9 ha hl) (fun _ t1 h1 => ok_some h1)
    · refine ok_swT (by decide) (ok_swT (by decide) (ok_swT (by decide) (ok_swT (by decide) (ok_swT (by decide) (ok_swH rfl ?_)))))
      rw [aDeal_5 d ed]
      refine ok_obE (x4_atE (f := 6) rfl (by omega) e6) ?_
      by_cases c : m.2 < aF w a 6
      · refine ok_ift c ?_
        rw [if_pos c]
        exact x4_failsD (n := 1) rfl (by omega) h hI h9 ha hl
      · refine ok_iff c ?_
        rw [if_neg c]
        exact set6 _
    · refine ok_swT (by decide) (ok_swT (by decide) (ok_swT (by decide) (ok_swT (by decide) (ok_swT (by decide) (ok_swT (by decide) (ok_swH rfl ?_))))))
      rw [aDeal_6 d ed]
      exact ok_ob (x4_delays h ha) (fun _ t1 h1 => ok_some (dQ_K h1.1 h1.2))
    · refine ok_swT (by decide) (ok_swT (by decide) (ok_swT (by decide) (ok_swT (by decide) (ok_swT (by decide) (ok_swT (by decide) (ok_swT (by decide) (ok_swH rfl ?_)))))))
      rw [aDeal_7 d ed]
      unfold fX4_pass
      exact ok_ob (x4_pass (all := true) (aN w) 0 FU w t (by unfold FU; omega) (by omega) ha h) (fun _ t1 h1 => ok_some (dQ_K h1.1 h1.2))
    · refine ok_swT (by decide) (ok_swT (by decide) (ok_swT (by decide) (ok_swT (by decide) (ok_swT (by decide) (ok_swT (by decide) (ok_swT (by decide) (ok_swT (by decide) (ok_swH rfl ?_))))))))
      rw [aDeal_8 d ed]
      exact ok_ob (x4_watches h hI ha m2 m3) (fun _ t1 h1 => ok_some (dQ_K h1.1 h1.2))
    · refine ok_swT (by decide) (ok_swT (by decide) (ok_swT (by decide) (ok_swT (by decide) (ok_swT (by decide) (ok_swT (by decide) (ok_swT (by decide) (ok_swT (by decide) (ok_swT (by decide) (ok_swN ?_)))))))))
      rw [aDeal_9 d ed]
      exact ok_ob (x4_stops (tm := tm) 13 w a t h hI ha (by omega)) (fun _ t1 h1 => ok_some (dQ_K h1.1 h1.2))
  · refine ok_iff d ?_
    by_cases c : aDoes w a = nI 5
    · refine ok_ift c ?_
      rw [aDeal_d5 d c]
      exact x4_failsD (n := 2) rfl (by omega) h hI h9 ha hl
    · refine ok_iff c ?_
      rw [aDeal_d d c]
      refine ok_obE (x4_atE (f := 6) rfl (by omega) e6) ?_
      exact set6 _
end X4F
