/-! THE TWIN: a failure -/
theorem tup_k (t : tSt) (k j : Nat) (x : Int32) (i : Nat) : tup t k j x k i = if i = j then x else t k i := by simp [tup]
theorem tup_z {t : tSt} {k j : Nat} {x : Int32} (h : k ≠ 0) : tup t k j x 0 = t 0 := tup_ne (Ne.symm h)
/-- all but the world stays, the restarted ones and the count of the chain, and so -/
def tJ (t t' : tSt) : Prop := (∀ k, k ≠ 0 → k ≠ 4 → k ≠ 18 → t' k = t k) ∧ ∀ j, j ≠ 5 → j ≠ 6 → j ≠ 7 → j ≠ 9 → j ≠ 18 → t' 18 j = t 18 j
theorem tJ.rf (t : tSt) : tJ t t := ⟨fun _ _ _ _ => rfl, fun _ _ _ _ _ _ => rfl⟩
theorem tJ.trans {a b c : tSt} (h : tJ a b) (k : tJ b c) : tJ a c := ⟨fun x h1 h2 h3 => (k.1 x h1 h2 h3).trans (h.1 x h1 h2 h3), fun j h1 h2 h3 h4 h5 => (k.2 j h1 h2 h3 h4 h5).trans (h.2 j h1 h2 h3 h4 h5)⟩
theorem tK.j {t t' : tSt} (h : tK t t') : tJ t t' := ⟨fun k h1 _ _ => h k h1, fun j _ _ _ _ _ => by rw [h 18 (by decide)]⟩
/-- the restarted ones -/
def tR (t t' : tSt) : Prop := (∀ k, k ≠ 0 → k ≠ 18 → t' k = t k) ∧ ∀ j, j ≠ 6 → t' 18 j = t 18 j
theorem tR.rf (t : tSt) : tR t t := ⟨fun _ _ _ => rfl, fun _ _ => rfl⟩
theorem tR.trans {a b c : tSt} (h : tR a b) (k : tR b c) : tR a c := ⟨fun x h1 h2 => (k.1 x h1 h2).trans (h.1 x h1 h2), fun j h1 => (k.2 j h1).trans (h.2 j h1)⟩
theorem tK.r {t t' : tSt} (h : tK t t') : tR t t' := ⟨fun k h1 _ => h k h1, fun j _ => by rw [h 18 (by decide)]⟩
theorem tR_tup {t : tSt} {x : Int32} : tR t (tup t 18 6 x) := ⟨fun k _ h => tup_ne h, fun j h => by rw [tup_k, if_neg h]⟩
theorem tR.j {t t' : tSt} (h : tR t t') : tJ t t' := ⟨fun k h1 _ h3 => h.1 k h1 h3, fun j _ h2 _ _ _ => h.2 j h2⟩
/-- the chain too -/
def tC (t t' : tSt) : Prop := (∀ k, k ≠ 0 → k ≠ 4 → k ≠ 18 → t' k = t k) ∧ (∀ j, j ≠ 9 → t' 18 j = t 18 j) ∧ t' 4 1 = t 4 1
theorem tC.rf (t : tSt) : tC t t := ⟨fun _ _ _ _ => rfl, fun _ _ => rfl, rfl⟩
theorem tC.trans {a b c : tSt} (h : tC a b) (k : tC b c) : tC a c := ⟨fun x h1 h2 h3 => (k.1 x h1 h2 h3).trans (h.1 x h1 h2 h3), fun j h1 => (k.2.1 j h1).trans (h.2.1 j h1), k.2.2.trans h.2.2⟩
theorem tK.c {t t' : tSt} (h : tK t t') : tC t t' := ⟨fun k h1 _ _ => h k h1, fun j _ => by rw [h 18 (by decide)], by rw [h 4 (by decide)]⟩
section X4D
variable {t : tSt} {w : aW} {a tm : Nat}
theorem x4_restarts (h : Rt (t 0) w) (hi : aI w tm) (ha : a < aN w) : Ok (fX4_restarts (nI a) t) (fun _ t' => Rt (t' 0) (aRestart w a) ∧ tR t t' ∧ t' 18 6 = (t 18 6 ||| ishl32 (nI 1) (nI a))) := by
  have hN := h.n12
  unfold fX4_restarts
  have hch : Ok (fX4_stopsChildren (fX4_stops 13) (nI a) t) (fun _ t' => Rt (t' 0) (aBelow (aStop 13) w a) ∧ tK t t') := by
    unfold fX4_stopsChildren
    refine ok_rv (x4_trd (by decide) h.1.1) ?_
    refine ok_letv ?_
    exact x4_below (by omega) (aM_stop 13) (aI_stop 13) (x4_stops 13) (aN w) FU w t (by unfold FU; omega) h hi (Nat.le_refl _) (by omega) (fun t' k1 h1 => ok_some ⟨h1, k1⟩)
  refine ok_ob hch (fun _ t1 h1 => ?_)
  obtain ⟨r1, k1⟩ := h1
  have i1 := (aI_below hi ha).1
  have m1 := aM_below 13 w a
  have ha1 : a < aN (aBelow (aStop 13) w a) := by rw [m1.1]; exact ha
  refine ok_obE (x4_sets (f := 6) rfl (by omega)) ?_
  have s1 : Rt (tup t1 0 (77 * a + 6) (nI 0) 0) (uF (aBelow (aStop 13) w a) a 6 (nI 0)) := r1.setF ha1 (by decide) (fun i => tup_0 t1 _ _ i)
  refine ok_ob (x4_forgets s1 ha1 (i1.act ha1).2.1.1.1) (fun _ t2 h2 => ?_)
  obtain ⟨r2, k2⟩ := h2
  refine ok_ob (x4_comesBack r2 ha1) (fun _ t3 h3 => ?_)
  obtain ⟨r3, k3⟩ := h3
  refine ok_letv ?_
  have k := tK.trans (tK.trans k1 tK_tup) (tK.trans k2 k3)
  refine ok_some ⟨?_, tR.trans k.r tR_tup, ?_⟩
  · rw [tup_z (by decide)]
    exact r3
  · rw [tup_k, if_pos rfl, k 18 (by decide)]
theorem x4_f240 {p one : Nat} {st : Int32} {kx : tSt → Option (Unit × tSt)} {Q : Unit → tSt → Prop} (hp : p < 12) (ho : one < 12) : ∀ (k i fuel : Nat) (w : aW) (t : tSt), k < fuel → i + k = aN w → Rt (t 0) w → aI w tm →
    (∀ t' : tSt, Rt (t' 0) (aRestN p one st k i w (t 18 6)).1 → t' 18 6 = (aRestN p one st k i w (t 18 6)).2 → tR t t' → Ok (kx t') Q) → Ok (fX4_fails_L240 (nI one) (nI p) st kx fuel (nI i) t) Q := by
  intro k
  induction k with
  | zero =>
    intro i fuel w t hf hi h hI k
    have hN := h.n12
    obtain ⟨fuel, rfl⟩ : ∃ n, fuel = n + 1 := ⟨fuel - 1, by omega⟩
    rw [fX4_fails_L240]
    refine ok_rv (x4_trd (by decide) h.1.1) ?_
    refine ok_iff (nI_nlt (by omega) (by omega)) ?_
    exact k t h rfl (tR.rf t)
  | succ n ih =>
    intro i fuel w t hf hi h hI k
    have hN := h.n12
    obtain ⟨fuel, rfl⟩ : ∃ n, fuel = n + 1 := ⟨fuel - 1, by omega⟩
    have e0 : t 0 (77 * i + 0) = aF w i 0 := h.fld (by omega) (by decide)
    have e5 : t 0 (77 * i + 5) = aF w i 5 := h.fld (by omega) (by decide)
    rw [fX4_fails_L240]
    unfold aRestN at k
    refine ok_rv (x4_trd (by decide) h.1.1) ?_
    refine ok_ift (nI_lt (by omega) (by omega)) ?_
    have yes : (i = one ∨ st = nI 1 ∨ (st = nI 2 ∧ one < i)) → Ok (ob (fX4_isLiveChild (nI i) (nI p) t) fun r43 t44 => if r43 = 0 then letv (nI i + nI 1) (fun y42 => fX4_fails_L240 (nI one) (nI p) st kx fuel y42 t44) else ob (fX4_restarts (nI i) t44) fun r45 t46 => letv (nI i + nI 1) (fun y42 => fX4_fails_L240 (nI one) (nI p) st kx fuel y42 t46)) Q := by
      intro c
      by_cases c2 : aF w i 0 = nI p ∧ aF w i 5 = nI 1
      · rw [if_pos ⟨c, c2⟩] at k
        refine ok_obE (x4_childT (by omega) (e0.trans c2.1) (e5.trans c2.2)) ?_
        refine ok_iff (by decide) ?_
        refine ok_ob (x4_restarts h hI (by omega)) (fun _ t1 h1 => ?_)
        obtain ⟨r1, k1, e1⟩ := h1
        refine ok_letv ?_
        rw [nI_add]
        refine ih (i + 1) fuel (aRestart w i) t1 (by omega) (by rw [aM_restart.1]; omega) r1 (aI_restart hI (by omega)) (fun t' h2 h3 h4 => ?_)
        rw [e1] at h2 h3
        exact k t' h2 h3 (tR.trans k1 h4)
      · rw [if_neg (fun q => c2 q.2)] at k
        refine ok_obE (x4_childF (by omega) (by rw [e0, e5]; exact c2)) ?_
        refine ok_ift rfl ?_
        refine ok_letv ?_
        rw [nI_add]
        exact ih (i + 1) fuel w t (by omega) (by omega) h hI k
    refine ok_jn ?_
    refine ok_jn ?_
    refine ok_ite (fun c => yes (Or.inl (nI_inj (by omega) (by omega) c))) (fun c => ?_)
    refine ok_ite (fun c2 => yes (Or.inr (Or.inl c2))) (fun c2 => ?_)
    refine ok_jn ?_
    have no : ¬ (i = one ∨ st = nI 1 ∨ (st = nI 2 ∧ one < i)) → Ok (letv (nI i + nI 1) (fun y42 => fX4_fails_L240 (nI one) (nI p) st kx fuel y42 t)) Q := by
      intro c
      rw [if_neg (fun q => c q.1)] at k
      refine ok_letv ?_
      rw [nI_add]
      exact ih (i + 1) fuel w t (by omega) (by omega) h hI k
    refine ok_ite (fun c3 => ok_ite (fun c4 => yes (Or.inr (Or.inr ⟨c3, ?_⟩))) (fun c4 => no ?_)) (fun c3 => no ?_)
    · exact Nat.lt_of_not_le (fun q => nI_nlt q (by omega) c4)
    · rintro (q | q | ⟨q1, q2⟩)
      · exact c (by rw [q])
      · exact c2 q
      · exact c4 (nI_lt q2 (by omega))
    · rintro (q | q | ⟨q1, q2⟩)
      · exact c (by rw [q])
      · exact c2 q
      · exact c3 q1
/-- the chain's things, the last first -/
def chR (t : tSt) (ch : List (Int32 × Int32)) : Prop := t 18 9 = nI ch.length ∧ ∀ k q, ch.reverse[k]? = some q → t 4 (2 * k) = q.1 ∧ t 4 (2 * k + 1) = q.2
theorem x4_f34 {kx : Int32 → tSt → Option (Unit × tSt)} {Q : Unit → tSt → Prop} : ∀ (n fuel : Nat) (w : aW) (one : Nat) (ch : List (Int32 × Int32)) (t : tSt), n + 1 < fuel → Rt (t 0) w → aI w tm → one < aN w → aF w one 5 = nI 1 → one < n → aI9 w one → chR t ch → ch ≠ [] → ch.length + one ≤ 12 →
    (∀ t' : tSt, Rt (t' 0) (aClimb n w one ch).1 → chR t' (aClimb n w one ch).2.2 → tC t t' → Ok (kx (nI (aClimb n w one ch).2.1) t') Q) → Ok (fX4_fails_L34 kx fuel (nI one) (nI 1) t) Q := by
  intro n
  induction n with
  | zero => intro fuel w one ch t hf h hI ho hl hn; omega
  | succ n ih =>
    intro fuel w one ch t hf h hI ho hl hn h9 hc hne hlen k
    have hN := h.n12
    obtain ⟨fuel, rfl⟩ : ∃ n, fuel = n + 2 := ⟨fuel - 2, by omega⟩
    rw [fX4_fails_L34]
    refine ok_iff (by decide) ?_
    refine ok_obE (x4_atE (f := 0) rfl (by omega) (h.fld ho (by decide))) ?_
    refine ok_jn ?_
    refine ok_jn ?_
    unfold aClimb at k
    have stop : ∀ (w' : aW) (t' : tSt), tC t t' → Rt (t' 0) w' → chR t' ch → (∀ t' : tSt, Rt (t' 0) w' → chR t' ch → tC t t' → Ok (kx (nI one) t') Q) → Ok (jn (fun x11 t12 => fX4_fails_L34 kx (fuel + 1) x11 (nI 0) t12) (fun j13 => if nI 0 = 0 then j13 (nI one) t' else rv (twr t' 4 (nI 2 * t' 18 9) (aF w one 0)) fun t14 => rv (twr t14 4 (nI 2 * t14 18 9 + nI 1) (nI 9)) fun t15 => letv (tup t15 18 9 (t15 18 9 + nI 1)) fun t16 => j13 (aF w one 0) t16)) Q := by
      intro w' t' k1 r1 c1 k2
      refine ok_jn ?_
      refine ok_ift (by decide) ?_
      show Ok (fX4_fails_L34 kx (fuel + 1) (nI one) (nI 0) t') Q
      rw [fX4_fails_L34]
      refine ok_ift (by decide) ?_
      exact k2 t' r1 c1 k1
    by_cases c : aF w one 0 < 0
    · rw [if_pos c] at k
      refine ok_ift c ?_
      exact stop w t (tC.rf t) h hc k
    · rw [if_neg c] at k
      refine ok_iff c ?_
      obtain ⟨hp, ep⟩ := hI.parN ho c
      have lp : aF w (aPar w one) 5 = nI 1 := hI.2.2.1 one ho _ hp ep hl
      have hk : (aL w (aPar w one) 4).length ≤ 9 := h9 _ (by omega) hp
      have i1 := aI_note hI (p := aPar w one) (by omega) lp hk
      rw [ep]
      refine ok_ob (x4_over h (by omega) hk) (fun r t1 h1 => ?_)
      obtain ⟨er, r1, k1⟩ := h1
      have c1 : chR t1 ch := by
        refine ⟨by rw [k1 18 (by decide)]; exact hc.1, fun j q hq => ?_⟩
        rw [k1 4 (by decide)]
        exact hc.2 j q hq
      by_cases o : aF w (aPar w one) 3 < nI ((aKept w (aPar w one)).length + 1)
      · rw [if_pos o] at k er
        subst er
        refine ok_iff (by decide) ?_
        refine ok_jn ?_
        refine ok_iff (by decide) ?_
        rw [c1.1, nI_mul]
        refine ok_rv (twr_n (by show _ < 26; omega)) ?_
        rw [tup_ne (by decide : (18 : Nat) ≠ 4), c1.1, nI_mul, nI_add]
        refine ok_rv (twr_n (by show _ < 26; omega)) ?_
        refine ok_letv ?_
        rw [tup_ne (by decide : (18 : Nat) ≠ 4), tup_ne (by decide : (18 : Nat) ≠ 4), c1.1, nI_add]
        have hl1 : 1 ≤ ch.length := List.length_pos_iff.mpr hne
        refine ih (fuel + 1) (aNote w (aPar w one)) (aPar w one) ((nI (aPar w one), nI 9) :: ch) _ (by omega) ?_ i1 (by rw [aMn_note.1]; omega) (by rw [aMn_note.2.1]; exact lp) (by omega) (fun x hx hn => by
          rw [aNote_L, if_neg (by omega)]
          exact h9 x hx (by omega)) ⟨?_, fun j q hq => ?_⟩ (by simp) (by simp only [List.length_cons]; omega) (fun t' r2 c2 k2 => k t' r2 c2 (tC.trans k1.c (tC.trans ⟨fun x h1 h2 h3 => ?_, fun j hj => ?_, ?_⟩ k2)))
        · rw [tup_z (by decide), tup_z (by decide), tup_z (by decide)]
          exact r1
        · rw [tup_k, if_pos rfl]; rfl
        · rw [tup_ne (by decide : (4 : Nat) ≠ 18), tup_k, tup_k, tup_k, tup_k]
          rw [List.reverse_cons] at hq
          have hlt := (List.getElem?_eq_some_iff.mp hq).1
          rw [List.length_append, List.length_reverse] at hlt
          have hlt : j < ch.length + 1 := hlt
          by_cases cj : j < ch.length
          · rw [List.getElem?_append_left (by rw [List.length_reverse]; exact cj)] at hq
            rw [if_neg (by omega), if_neg (by omega), if_neg (by omega), if_neg (by omega)]
            exact c1.2 j q hq
          · have ej : j = ch.length := by omega
            subst ej
            rw [List.getElem?_append_right (by rw [List.length_reverse]; exact Nat.le_refl _), List.length_reverse, Nat.sub_self] at hq
            cases hq
            rw [if_neg (by omega), if_pos rfl, if_pos rfl]
            exact ⟨rfl, rfl⟩
        · rw [tup_ne h3, tup_ne h2, tup_ne h2]
        · rw [tup_k, if_neg hj, tup_ne (by decide : (18 : Nat) ≠ 4), tup_ne (by decide : (18 : Nat) ≠ 4)]
        · rw [tup_ne (by decide : (4 : Nat) ≠ 18), tup_k, tup_k, if_neg (by omega), if_neg (by omega)]
      · rw [if_neg o] at k er
        subst er
        refine ok_ift (by decide) ?_
        have := stop (aNote w (aPar w one)) t1 k1.c r1 c1 k
        rw [ep] at this
        exact this
theorem x4_f132 {one : Int32} {ch : List (Int32 × Int32)} (hl : ch.length ≤ 12) {kx : tSt → Option (Unit × tSt)} {Q : Unit → tSt → Prop} : ∀ (n i fuel : Nat) (t : tSt), n < fuel → i + n = ch.length → chR t ch → (∀ j q, j < i → ch[j]? = some q → t 0 (994 + 2 * j) = q.1 ∧ t 0 (995 + 2 * j) = q.2) →
    (∀ t' : tSt, tK t t' → (∀ j, j < 994 → t' 0 j = t 0 j) → (∀ j q, ch[j]? = some q → t' 0 (994 + 2 * j) = q.1 ∧ t' 0 (995 + 2 * j) = q.2) → Ok (kx t') Q) → Ok (fX4_fails_L132 one kx fuel (nI i) t) Q := by
  intro n
  induction n with
  | zero =>
    intro i fuel t hf hi hc hd k
    obtain ⟨fuel, rfl⟩ : ∃ n, fuel = n + 1 := ⟨fuel - 1, by omega⟩
    rw [fX4_fails_L132]
    refine ok_iff (by rw [hc.1]; exact nI_nlt (by omega) (by omega)) ?_
    exact k t (tK.rf t) (fun _ _ => rfl) (fun j q hq => hd j q (by have := (List.getElem?_eq_some_iff.mp hq).1; omega) hq)
  | succ n ih =>
    intro i fuel t hf hi hc hd k
    obtain ⟨fuel, rfl⟩ : ∃ n, fuel = n + 1 := ⟨fuel - 1, by omega⟩
    have hli : i < ch.length := by omega
    obtain ⟨q, hq⟩ : ∃ q, ch[i]? = some q := ⟨ch[i], List.getElem?_eq_getElem hli⟩
    have hq2 : ch.reverse[ch.length - 1 - i]? = some q := by
      rw [List.getElem?_reverse (by omega), show ch.length - 1 - (ch.length - 1 - i) = i from by omega]
      exact hq
    obtain ⟨q1, q2⟩ := hc.2 _ q hq2
    rw [fX4_fails_L132]
    refine ok_ift (by rw [hc.1]; exact nI_lt (by omega) (by omega)) ?_
    rw [hc.1, nI_sub (by omega), nI_sub (by omega), nI_mul, nI_mul, nI_add, nI_add]
    refine ok_rv (trd_n (by show _ < 26; omega)) ?_
    refine ok_rv (twr_n (by show _ < 1018; omega)) ?_
    rw [tup_ne (by decide : (18 : Nat) ≠ 0), hc.1, nI_sub (by omega), nI_sub (by omega), nI_mul, nI_add]
    refine ok_rv (trd_n (by show _ < 26; omega)) ?_
    refine ok_rv (twr_n (by show _ < 1018; omega)) ?_
    refine ok_letv ?_
    rw [nI_add, tup_ne (by decide : (4 : Nat) ≠ 0), q1, q2]
    refine ih (i + 1) fuel _ (by omega) (by omega) ⟨by rw [tup_ne (by decide), tup_ne (by decide)]; exact hc.1, fun j r hr => by rw [tup_ne (by decide), tup_ne (by decide)]; exact hc.2 j r hr⟩ (fun j r hj hr => ?_) (fun t' k1 f1 d1 => k t' (tK.trans (tK.trans tK_tup tK_tup) k1) (fun j hj => by rw [f1 j hj, tup_0, tup_0, if_neg (by omega), if_neg (by omega)]) d1)
    rw [tup_0, tup_0, tup_0, tup_0]
    by_cases c : j = i
    · subst c
      rw [hq] at hr
      cases hr
      rw [if_neg (by omega), if_pos rfl, if_pos (by omega)]
      exact ⟨rfl, rfl⟩
    · rw [if_neg (by omega), if_neg (by omega), if_neg (by omega), if_neg (by omega)]
      exact hd j r (by omega) hr
theorem aRestN_b {p one : Nat} {st : Int32} : ∀ (k i : Nat) (w : aW) (b c : Int32), (aRestN p one st k i w b).1 = (aRestN p one st k i w c).1 := by
  intro k
  induction k with
  | zero => exact fun _ _ _ _ => rfl
  | succ k ih =>
    intro i w b c
    unfold aRestN
    split
    · exact ih _ _ _ _
    · exact ih _ _ _ _
theorem aFails_b (w : aW) (a : Nat) (why b c : Int32) : (aFails w a why b).1 = (aFails w a why c).1 := by
  unfold aFails aFailsO
  split
  · rfl
  · exact aRestN_b _ _ _ _ _
theorem x4_fails {why : Int32} (h : Rt (t 0) w) (hI : aI w tm) (h9 : aI9 w 12) (ha : a < aN w) (hl : aF w a 5 = nI 1) : Ok (fX4_fails (nI a) why t) (fun _ t' => Rt (t' 0) (aFails w a why (t 18 6)).1 ∧ t' 18 6 = (aFails w a why (t 18 6)).2 ∧ t' 18 5 = nI 1 ∧ t' 4 1 = why ∧ t' 18 7 = t 18 7 ∧ t' 18 18 = t 18 18 ∧ tJ t t') := by
  have hN := h.n12
  obtain ⟨c1, c2, c3, c4, c5, c6⟩ := aI_climb 13 w a [(nI a, why)] hI ha hl (by omega) (fun x hx hn => h9 x hx (by omega)) ⟨fun x => x = a, rfl, fun x hx => Or.inl hx, fun x hx hg => by have := h9 x hx (by omega); omega⟩
  unfold fX4_fails
  refine ok_letv ?_
  refine ok_letv ?_
  refine ok_rv (twr_n (n := 0) (by decide)) ?_
  refine ok_rv (twr_n (n := 1) (by decide)) ?_
  refine ok_letv ?_
  refine x4_f34 13 FU w a [(nI a, why)] _ (by unfold FU; omega) ?_ hI ha hl (by omega) (fun x hx hn => h9 x hx (by omega)) ⟨?_, fun j q hq => ?_⟩ (by simp) (by simp only [List.length_cons, List.length_nil]; omega) (fun t1 r1 ch1 k1 => ?_)
  · rw [tup_z (by decide), tup_z (by decide), tup_z (by decide), tup_z (by decide), tup_z (by decide)]
    exact h
  · rw [tup_k, if_pos rfl]; rfl
  · have hlt := (List.getElem?_eq_some_iff.mp hq).1
    have hj : j = 0 := by
      have hlt : j < 1 := hlt
      omega
    subst hj
    cases hq
    rw [tup_ne (by decide : (4 : Nat) ≠ 18), tup_k, tup_k, tup_k]
    exact ⟨rfl, rfl⟩
  · unfold aFails
    generalize aClimb 13 w a [(nI a, why)] = R at r1 ch1 c1 c2 c3 c4 c5 c6
    obtain ⟨w1, one, ch⟩ := R
    have hN1 := r1.n12
    have c6 : ch.length ≤ 1 + (a - one) := c6
    have c3 : one ≤ a := c3
    have c4 : aF w one 5 = nI 1 := c4
    have hN2 : aN w1 = aN w := c2.1
    have hl12 : ch.length ≤ 12 := by omega
    show Ok _ (fun _ (t' : tSt) => Rt (t' 0) (aFailsO (uC w1 ch) one (t 18 6)).1 ∧ t' 18 6 = (aFailsO (uC w1 ch) one (t 18 6)).2 ∧ t' 18 5 = nI 1 ∧ t' 4 1 = why ∧ t' 18 7 = t 18 7 ∧ t' 18 18 = t 18 18 ∧ tJ t t')
    rw [ch1.1]
    refine ok_rv (twr_n (n := 993) (by decide)) ?_
    refine x4_f132 hl12 ch.length 0 FU _ (by unfold FU; omega) (by omega) ⟨by rw [tup_ne (by decide)]; exact ch1.1, fun j q hq => by rw [tup_ne (by decide)]; exact ch1.2 j q hq⟩ (fun j q hj => by omega) (fun t2 k2 f2 d2 => ?_)
    have r2 : Rt (t2 0) (uC w1 ch) := by
      refine r1.setC (fun j hj => by rw [f2 j (by omega), tup_0, if_neg (by omega)]) ⟨?_, hl12, fun i x hx => d2 i x hx⟩
      rw [f2 993 (by omega), tup_0, if_pos rfl]
    have i2 : aI (uC w1 ch) tm := c1.setC hl12
    have o2 : one < aN (uC w1 ch) := by show one < aN w1; omega
    have k3 : tC t t2 ∨ True := Or.inr trivial
    have q6 : t2 18 6 = t 18 6 := by rw [k2 18 (by decide), tup_ne (by decide), k1.2.1 6 (by decide), tup_k, if_neg (by decide), tup_ne (by decide), tup_ne (by decide), tup_k, if_neg (by decide), tup_k, if_neg (by decide)]
    have q5 : t2 18 5 = nI 1 := by rw [k2 18 (by decide), tup_ne (by decide), k1.2.1 5 (by decide), tup_k, if_neg (by decide), tup_ne (by decide), tup_ne (by decide), tup_k, if_neg (by decide), tup_k, if_pos rfl]
    have q41 : t2 4 1 = why := by rw [k2 4 (by decide), tup_ne (by decide), k1.2.2, tup_ne (by decide), tup_k, if_pos rfl]
    have q18 : ∀ j, j ≠ 5 → j ≠ 9 → t2 18 j = t 18 j := fun j h1 h2 => by rw [k2 18 (by decide), tup_ne (by decide), k1.2.1 j h2, tup_k, if_neg h2, tup_ne (by decide), tup_ne (by decide), tup_k, if_neg h2, tup_k, if_neg h1]
    have qk : ∀ k, k ≠ 0 → k ≠ 4 → k ≠ 18 → t2 k = t k := fun k h1 h2 h3 => by rw [k2 k h1, tup_ne h1, k1.1 k h1 h2 h3, tup_ne h3, tup_ne h2, tup_ne h2, tup_ne h3, tup_ne h3]
    have e0 : t2 0 (77 * one + 0) = aF (uC w1 ch) one 0 := r2.fld o2 (by decide)
    refine ok_obE (x4_atE (f := 0) rfl (by omega) e0) ?_
    unfold aFailsO
    by_cases c : aF (uC w1 ch) one 0 < 0
    · refine ok_ift c ?_
      rw [if_pos c]
      refine ok_ob (x4_stops (tm := tm) 13 (uC w1 ch) one t2 r2 i2 o2 (by show aN w1 ≤ _; omega)) (fun _ t3 h3 => ?_)
      obtain ⟨r3, k3⟩ := h3
      refine ok_some ⟨r3, by rw [k3 18 (by decide)]; exact q6, by rw [k3 18 (by decide)]; exact q5, by rw [k3 4 (by decide)]; exact q41, by rw [k3 18 (by decide)]; exact q18 7 (by decide) (by decide), by rw [k3 18 (by decide)]; exact q18 18 (by decide) (by decide), fun k h1 h2 h4 => by rw [k3 k h1]; exact qk k h1 h2 h4, fun j h1 h2 h3 h4 h5 => by rw [k3 18 (by decide)]; exact q18 j h1 h4⟩
    · refine ok_iff c ?_
      rw [if_neg c]
      obtain ⟨hp, ep⟩ := i2.parN o2 c
      rw [ep]
      refine ok_obE (x4_atE (f := 2) rfl (by omega) (r2.fld (by omega) (by decide))) ?_
      refine x4_f240 (w := uC w1 ch) (by omega) (by omega) (aN (uC w1 ch)) 0 FU t2 (by unfold FU; show aN w1 < _; omega) (by omega) r2 i2 (fun t3 r3 e3 k3 => ?_)
      rw [q6] at r3 e3
      refine ok_some ⟨r3, e3, by rw [k3.2 5 (by decide)]; exact q5, by rw [k3.1 4 (by decide) (by decide)]; exact q41, by rw [k3.2 7 (by decide)]; exact q18 7 (by decide) (by decide), by rw [k3.2 18 (by decide)]; exact q18 18 (by decide) (by decide), fun k h1 h2 h4 => by rw [k3.1 k h1 h4]; exact qk k h1 h2 h4, fun j h1 h2 h3 h4 h5 => by rw [k3.2 j h2]; exact q18 j h1 h4⟩
end X4D
