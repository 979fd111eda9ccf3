/-! THE COMPONENT: one stops -/
theorem Al.ex {α β : Type} {V : β → α → Prop} : ∀ {cs : List β} {xs : List α}, Al V cs xs → ∀ c ∈ cs, ∃ x, x ∈ xs ∧ V c x
  | [], [], _, _, h => by cases h
  | c :: cs, x :: xs, h, d, hd => by
    rcases List.mem_cons.mp hd with e | e
    · exact ⟨x, List.mem_cons_self, by rw [e]; exact h.1⟩
    · obtain ⟨y, hy, k⟩ := Al.ex h.2 d e
      exact ⟨y, List.mem_cons_of_mem _ hy, k⟩
  | [], _ :: _, h, _, _ => h.elim
  | _ :: _, [], h, _, _ => h.elim
/-! what the lambdas say -/
section ISS
variable {t : cS} {p x y i : Nat}
theorem is_tm {v : Int32 × Int32 × Int32} {n : Int32} (h : cK t p = 34) (h9 : cI t 900 p = n) (hx : Vt t x v) : fD_is p (some x) t = some (zb (v.1 == n), t) := by
  obtain ⟨x1, x2, -⟩ := hx
  unfold fD_is fX5_lambda_new_1
  simp only [gd_tr, letv_e, rv_e, onul_n, onul_s, ob_e, sI_I, sI_K, sI_L, sI_R, sI_n, sI_z, sR_R, sR_K, sR_L, sR_I, sR_n, sR_z, sN_n, sN_z, true_and, and_true, if_true, and_self, h, x1, x2, h9]
  rw [if_neg (by decide)]
  by_cases c : v.1 = n
  · rw [if_pos c, show (v.1 == n) = true from by simpa using c]; rfl
  · rw [if_neg c, show (v.1 == n) = false from by simpa using c]; rfl
theorem is_it {v : Int32 × Int32} {n : Int32} (h : cK t p = 33) (h9 : cI t 900 p = n) (hx : Vi t x v) : fD_is p (some x) t = some (zb (v.1 == n), t) := by
  obtain ⟨x1, x2⟩ := hx
  unfold fD_is fX5_lambda_new_0 fJ5_intValue
  simp only [gd_tr, letv_e, rv_e, onul_n, onul_s, ob_e, sI_I, sI_K, sI_L, sI_R, sI_n, sI_z, sR_R, sR_K, sR_L, sR_I, sR_n, sR_z, sN_n, sN_z, true_and, and_true, if_true, and_self, h, x1, x2, h9]
  by_cases c : v.1 = n
  · rw [if_pos c, show (v.1 == n) = true from by simpa using c]; rfl
  · rw [if_neg c, show (v.1 == n) = false from by simpa using c]; rfl
theorem is_due {u v : Int32 × Int32 × Int32} (h : cK t p = 35) (h9 : cR t 901 p = some y) (hy : Vt t y u) (hx : Vt t x v) : fD_is p (some x) t = some (zb (decide (u.2.1 < v.2.1)), t) := by
  obtain ⟨x1, -, x3, -⟩ := hx
  obtain ⟨y1, -, y3, -⟩ := hy
  unfold fD_is fX1_lambda_timed_0
  simp only [gd_tr, letv_e, rv_e, onul_n, onul_s, ob_e, sI_I, sI_K, sI_L, sI_R, sI_n, sI_z, sR_R, sR_K, sR_L, sR_I, sR_n, sR_z, sN_n, sN_z, true_and, and_true, if_true, and_self, h, x1, x3, h9, y1, y3]
  rw [if_neg (by decide), if_neg (by decide)]
  by_cases c : u.2.1 < v.2.1
  · rw [if_pos c, decide_eq_true c]; rfl
  · rw [if_neg c, decide_eq_false c]; rfl
end ISS
section CST
variable {P : Nat → Prop} {t t' : cS} {w i j x : Nat} {A : Nat → Nat} {W : aW}
theorem zb_eq {a b : Bool} (h : a = b) : zb a = zb b := by rw [h]
/-- any queue of an actor -/
theorem Po.qk {k : Nat} {mo : Int32} {cs : List (Nat × Nat)} {c s : Nat} (h : CW P t w A W) (hi : i < aN W) (hk : 1 ≤ k ∧ k ≤ 4) (hq : Qr P t (A i + 1 + k) mo cs) (f : Fr (Qc (A i + 1 + k) cs) t t') {xs : List (Int32 × Int32)} (h2 : Qv P t' (A i + 1 + k) (qMo k) (qV k t') xs) (e1 : cn t' + Pw (uL W i k xs) i ≤ cn t + Pw W i + c) (e2 : cz t' + 3 * Pw (uL W i k xs) i ≤ cz t + 3 * Pw W i + s) : Po P w A t t' W (uL W i k xs) c s := by
  have eP := Ph_uL (k := k) (xs := xs) (W := W) hi
  exact ⟨h.frQ hi hk hq f h2, Fr.ofQ hq f, h.k2 hq f, by omega, by omega⟩
theorem Pw_le {k : Nat} {xs : List (Int32 × Int32)} (h : xs.length ≤ (aL W i k).length) : Pw (uL W i k xs) i ≤ Pw W i := by
  unfold Pw
  rw [uL_L, uL_L]
  by_cases c2 : k = 2
  · subst c2
    rw [if_pos ⟨rfl, rfl⟩, if_neg (by omega)]
    omega
  · by_cases c3 : k = 3
    · subst c3
      rw [if_neg (by omega), if_pos ⟨rfl, rfl⟩]
      omega
    · rw [if_neg (by omega), if_neg (by omega)]
      omega
theorem cw_empties {k : Nat} (h : CW P t w A W) (hi : i < aN W) (hk : 1 ≤ k ∧ k ≤ 4) : Ok (fX2_empties (A i + 1 + k) t) (fun _ t' => Po P w A t t' W (uL W i k []) 0 0) := by
  obtain ⟨cs, q1, q2⟩ := h.que hi hk
  refine ok_mono (qr_empties q1 h.wf) (fun _ t1 z => ?_)
  obtain ⟨r1, f1, e1, e2⟩ := z
  have := Pw_le (W := W) (i := i) (k := k) (xs := []) (Nat.zero_le _)
  exact Po.qk h hi hk q1 (f1.mono (fun y _ z => Or.inl z)) ⟨[], r1, trivial⟩ (by omega) (by omega)
theorem cw_untimed (h : CW P t w A W) (hi : i < aN W) (ht : (aT W).length ≤ 10) : Ok (fX1_untimed w (some (A i)) t) (fun _ t' => Po P w A t t' W (uT W ((aT W).filter fun x => !(x.1 == nI i))) 0 0) := by
  have fw := h.fw
  have fa := h.fa hi
  unfold fX1_untimed
  simp only [gd_tr, letv_e, rv_e, onul_n, onul_s, ob_e, sI_I, sI_K, sI_L, sI_R, sI_n, sI_z, sR_R, sR_K, sR_L, sR_I, sR_n, sR_z, sN_n, sN_z, true_and, and_true, if_true, and_self, fw, fa]
  obtain ⟨cs, q1, q2⟩ := h.tm
  have lq : cs.length = (aT W).length := by rw [← List.length_map Prod.snd, q2.len, tSo_len]
  obtain ⟨a1, a2, a3, a4⟩ := h.act hi
  refine ok_ob (qr_drops (p := fun d => cI t 59 d.2 == nI i) q1 h.wf (by omega) (fun t1 f1 d hd => ?_)) (fun _ t1 z => ?_)
  · have a3' := a3.st h.wf f1
    obtain ⟨v, hv, k⟩ := Al.ex q2 d.2 (List.mem_map_of_mem hd)
    rw [is_tm a3'.2.2.1 a3'.2.2.2 (Vt_st _ _ _ _ _ h.wf f1 k), k.2.1]
  · obtain ⟨r1, f1, e1, e2⟩ := z
    refine ok_some ⟨h.frT q1 f1 ?_, Fr.ofQ q1 f1, h.k2 q1 f1, ?_, ?_⟩
    · refine ⟨_, r1, ?_⟩
      rw [tSo_filter]
      refine Al.map.mpr (Al.filter (Al.map.mp (q2.st Vt_st h.wf f1)) (fun c v hc hv k => ?_))
      -- the value says so
      obtain ⟨v', hv', k'⟩ := Al.ex q2 c.2 (List.mem_map_of_mem hc)
      have e : cI t1 59 c.2 = cI t 59 c.2 := by rw [k'.2.1, (Vt_st _ _ _ _ _ h.wf f1 k').2.1]
      rw [← k.2.1, e]
    · have : Ph (uT W ((aT W).filter fun x => !(x.1 == nI i))) = Ph W := Ph_eq rfl (fun _ _ => ⟨rfl, rfl⟩)
      omega
    · have : Ph (uT W ((aT W).filter fun x => !(x.1 == nI i))) = Ph W := Ph_eq rfl (fun _ _ => ⟨rfl, rfl⟩)
      omega
/-- i does not watch j any more -/
theorem cw_forgets (h : CW P t w A W) (hi : i < aN W) (hj : j < aN W) (hl : (aL W j 3).length ≤ 12) : Ok (fX5_forgets (A j) (some (A i)) t) (fun _ t' => Po P w A t t' W (uL W j 3 ((aL W j 3).filter fun q => !(q.1 == nI i))) 0 0) := by
  have fj := h.fa hj
  have fa := h.fa hi
  unfold fX5_forgets
  simp only [gd_tr, letv_e, rv_e, onul_n, onul_s, ob_e, sI_I, sI_K, sI_L, sI_R, sI_n, sI_z, sR_R, sR_K, sR_L, sR_I, sR_n, sR_z, sN_n, sN_z, true_and, and_true, if_true, and_self, fj, fa]
  obtain ⟨cs, q1, q2⟩ := h.que hj (k := 3) (by omega)
  have lq : cs.length = (aL W j 3).length := by rw [← List.length_map Prod.snd, q2.len]
  obtain ⟨a1, a2, a3, a4⟩ := h.act hi
  refine ok_ob (qr_drops (p := fun d => cI t 69 d.2 == nI i) q1 h.wf (by omega) (fun t1 f1 d hd => ?_)) (fun _ t1 z => ?_)
  · have a3' := a3.st h.wf f1
    obtain ⟨v, hv, k⟩ := Al.ex q2 d.2 (List.mem_map_of_mem hd)
    have k : Vi t d.2 v := k
    rw [is_it a3'.1 a3'.2.1 (Vi_st _ _ _ _ _ h.wf f1 k), k.2]
  · obtain ⟨r1, f1, e1, e2⟩ := z
    have := Pw_le (W := W) (i := j) (k := 3) (xs := (aL W j 3).filter fun q => !(q.1 == nI i)) (List.length_filter_le _ _)
    refine ok_some (Po.qk h hj (by omega) q1 f1 ⟨_, r1, ?_⟩ (by omega) (by omega))
    refine Al.map.mpr (Al.filter (Al.map.mp (q2.st (V := fun t => qV 3 t) Vi_st h.wf f1)) (fun c v hc hv k => ?_))
    obtain ⟨v', hv', k'⟩ := Al.ex q2 c.2 (List.mem_map_of_mem hc)
    have k' : Vi t c.2 v' := k'
    have k : Vi t1 c.2 v := k
    have e : cI t1 69 c.2 = cI t 69 c.2 := by rw [k'.2, (Vi_st _ _ _ _ _ h.wf f1 k').2]
    rw [← k.2, e]
theorem cw_uw43 {kx : cS → Option (Unit × cS)} {Q : Unit → cS → Prop} (hi : i < aN W) (hw3 : ∀ j, j < aN W → (aL W j 3).length ≤ 12) : ∀ (n j fuel : Nat) (t : cS), n < fuel → j + n = aN W → CW P t w A (aUnwI W i j) →
    (∀ t', Po P w A t t' (aUnwI W i j) (aUnw W i) 0 0 → Ok (kx t') Q) → Ok (fX1_stops_L43 w (A i) kx fuel (nI j) t) Q := by
  intro n
  induction n with
  | zero =>
    intro j fuel t hf hj h k
    obtain ⟨fuel, rfl⟩ : ∃ n, fuel = n + 1 := ⟨fuel - 1, by omega⟩
    have hN := h.sp.1
    have hN : aN W ≤ 12 := hN
    have fw := h.fw
    have e7 : cI t 7 w = nI (aN W) := fw.2.2.1
    rw [fX1_stops_L43]
    simp only [gd_tr, letv_e, rv_e, onul_n, onul_s, ob_e, sI_I, sI_K, sI_L, sI_R, sI_n, sI_z, sR_R, sR_K, sR_L, sR_I, sR_n, sR_z, sN_n, sN_z, true_and, and_true, if_true, and_self, fw.1, e7]
    refine ok_iff (nI_nlt (by omega) (by omega)) ?_
    have ej : j = aN W := by omega
    rw [ej] at k h
    exact k t (Po.rf h)
  | succ n ih =>
    intro j fuel t hf hj h k
    obtain ⟨fuel, rfl⟩ : ∃ n, fuel = n + 1 := ⟨fuel - 1, by omega⟩
    have hN : aN W ≤ 12 := h.sp.1
    have hj2 : j < aN W := by omega
    have fw := h.fw
    have e7 : cI t 7 w = nI (aN W) := fw.2.2.1
    have fj := h.fa (i := j) hj2
    rw [fX1_stops_L43]
    simp only [gd_tr, letv_e, rv_e, onul_n, onul_s, ob_e, sI_I, sI_K, sI_L, sI_R, sI_n, sI_z, sR_R, sR_K, sR_L, sR_I, sR_n, sR_z, sN_n, sN_z, true_and, and_true, if_true, and_self, cIn, fw.1, fw.2.1, fw.2.2.2.2.2.2.2.2.2, e7]
    refine ok_ift (nI_lt hj2 (by omega)) ?_
    simp only [gd_tr, letv_e, rv_e, onul_n, onul_s, ob_e, sI_I, sI_K, sI_L, sI_R, sI_n, sI_z, sR_R, sR_K, sR_L, sR_I, sR_n, sR_z, sN_n, sN_z, true_and, and_true, if_true, and_self, fj.1, fj.2.1, fj.2.2.1, not_false_eq_true]
    have e3 : aL (aUnwI W i j) j 3 = aL W j 3 := by
      show (if (3 : Nat) = 3 ∧ j < j then _ else _) = _
      rw [if_neg (by omega)]
    refine ok_ob (cw_forgets h (i := i) (j := j) hi hj2 (by rw [e3]; exact hw3 j hj2)) (fun _ t1 z => ?_)
    rw [nI_add]
    have e : uL (aUnwI W i j) j 3 ((aL (aUnwI W i j) j 3).filter fun q => !(q.1 == nI i)) = aUnwI W i (j + 1) := by
      rw [e3]
      unfold aUnwI uL
      refine congrArg (fun z => (aN W, aF W, z, aG W, aT W, aO W, aC W)) ?_
      funext b l
      show (if b = j ∧ l = 3 then _ else if l = 3 ∧ b < j then _ else _) = if l = 3 ∧ b < j + 1 then _ else _
      by_cases c : b = j ∧ l = 3
      · rw [if_pos c, if_pos (by omega), c.1]
      · rw [if_neg c]
        by_cases c2 : l = 3 ∧ b < j
        · rw [if_pos c2, if_pos (by omega)]
        · rw [if_neg c2, if_neg (by omega)]
    rw [e] at z
    refine ih (j + 1) fuel t1 (by omega) (by omega) z.1 (fun t2 z2 => k t2 ?_)
    exact z.trans z2
theorem aW_ext {W W' : aW} (h1 : aN W = aN W') (h2 : ∀ a f, aF W a f = aF W' a f) (h3 : ∀ a k, aL W a k = aL W' a k) (h4 : ∀ i, aG W i = aG W' i) (h5 : aT W = aT W') (h6 : aO W = aO W') (h7 : aC W = aC W') : W = W' := by
  obtain ⟨a1, a2, a3, a4, a5, a6, a7⟩ := W
  obtain ⟨b1, b2, b3, b4, b5, b6, b7⟩ := W'
  have e2 : a2 = b2 := funext fun a => funext fun f => h2 a f
  have e3 : a3 = b3 := funext fun a => funext fun f => h3 a f
  have e4 : a4 = b4 := funext fun a => h4 a
  have e1 : a1 = b1 := h1
  have e5 : a5 = b5 := h5
  have e6 : a6 = b6 := h6
  have e7 : a7 = b7 := h7
  subst e1 e2 e3 e4 e5 e6 e7
  rfl
theorem aSends_uL3 (V : aW) (i j : Nat) (R : List (Int32 × Int32)) (m : Int32 × Int32) : aSends (uL V i 3 R) j m = ((aSends V j m).1, uL (aSends V j m).2 i 3 R) := by
  have e1 : aL (uL V i 3 R) j 1 = aL V j 1 := by rw [uL_L, if_neg (by omega)]
  unfold aSends
  rw [e1, uL_F]
  by_cases c : aF V j 5 = nI 1 ∧ (aL V j 1).length < 12
  · rw [if_pos c, if_pos c]
    refine Prod.ext rfl (aW_ext rfl (fun _ _ => rfl) (fun a k => ?_) (fun _ => rfl) rfl rfl rfl)
    show (if a = j ∧ k = 1 then _ else if a = i ∧ k = 3 then R else aL V a k) = if a = i ∧ k = 3 then R else if a = j ∧ k = 1 then _ else aL V a k
    by_cases c1 : a = j ∧ k = 1
    · rw [if_pos c1, if_neg (by omega), if_pos c1]
    · rw [if_neg c1, if_neg c1]
  · rw [if_neg c, if_neg c]
    exact Prod.ext rfl (aW_ext rfl (fun _ _ => rfl) (fun _ _ => rfl) (fun _ => rfl) rfl rfl rfl)
theorem uL3_uL3 (V : aW) (i : Nat) (R R' : List (Int32 × Int32)) : uL (uL V i 3 R) i 3 R' = uL V i 3 R' := aW_ext rfl (fun _ _ => rfl) (fun a k => by
  show (if a = i ∧ k = 3 then R' else if a = i ∧ k = 3 then R else aL V a k) = if a = i ∧ k = 3 then R' else aL V a k
  by_cases c : a = i ∧ k = 3
  · rw [if_pos c, if_pos c]
  · rw [if_neg c, if_neg c, if_neg c]) (fun _ => rfl) rfl rfl rfl
/-- a death is made -/
theorem new_death {n : Int32} (hw : cWf t) : ∃ t1, fX10_init (cn t) n (sN t 9 0 2) = some ((), t1) ∧ Fr (fun _ => False) t t1 ∧ (∀ k, k < 12 → n = nI k → Vm t1 (cn t) (-1, nI 1000 + nI k)) ∧ cn t1 = cn t + 1 ∧ cz t1 = cz t + 2 := by
  have k9 : cK (sN t 9 0 2) (cn t) = 9 := by rw [sN_K, if_pos rfl]
  refine ⟨sI (sI (sN t 9 0 2) 43 (cn t) (-1)) 50 (cn t) n, ?_, fr_nI (fr_nI (fr_sN hw) (Nat.le_refl _)) (Nat.le_refl _), fun k hk e => Or.inr ⟨k9, ?_, rfl, k, hk, ?_, rfl⟩, rfl, rfl⟩
  · unfold fX10_init fX6_init
    simp [gd_tr, ob_e, letv_e, sI_K, k9]
  · rw [sI_I, if_neg (by omega), sI_I, if_pos ⟨rfl, rfl⟩]
  · rw [sI_I, if_pos ⟨rfl, rfl⟩]; exact e
theorem new_msg {v n : Int32} (hw : cWf t) (hn : n < nI 1000) : ∃ t1, fX7_init (cn t) v n (sN t 6 0 2) = some ((), t1) ∧ Fr (fun _ => False) t t1 ∧ Vm t1 (cn t) (v, n) ∧ cn t1 = cn t + 1 ∧ cz t1 = cz t + 2 := by
  have k6 : cK (sN t 6 0 2) (cn t) = 6 := by rw [sN_K, if_pos rfl]
  refine ⟨sI (sI (sN t 6 0 2) 43 (cn t) v) 44 (cn t) n, ?_, fr_nI (fr_nI (fr_sN hw) (Nat.le_refl _)) (Nat.le_refl _), Or.inl ⟨k6, ?_, ?_, hn⟩, rfl, rfl⟩
  · unfold fX7_init fX6_init
    simp [gd_tr, ob_e, letv_e, sI_K, k6]
  · rw [sI_I, if_neg (by omega), sI_I, if_pos ⟨rfl, rfl⟩]
  · rw [sI_I, if_pos ⟨rfl, rfl⟩]
/-- they are told -/
theorem cw_told {tm : Nat} {kx : cS → Option (Unit × cS)} {Q : Unit → cS → Prop} : ∀ (R : List (Int32 × Int32)) (V : aW) (fuel : Nat) (t : cS), R.length < fuel → R.length ≤ 12 → CW P t w A (uL V i 3 R) → aI V tm → i < aN V → aL V i 3 = [] → (∀ q ∈ R, ∃ j, j < aN V ∧ q = (nI j, nI 0)) →
    (∀ t', Po P w A t t' (uL V i 3 R) (aTold (-1, nI 1000 + nI i) R V) 0 0 → Ok (kx t') Q) → Ok (fX1_stops_L67 w (A i) kx fuel t) Q := by
  intro R
  induction R with
  | nil =>
    intro V fuel t hf hl h hI hi h3 hR k
    obtain ⟨fuel, rfl⟩ : ∃ n, fuel = n + 1 := ⟨fuel - 1, by omega⟩
    have fa := h.fa (i := i) hi
    have e24 := (h.que (i := i) hi (k := 3) (by omega)).len
    have e24 : cI t 24 (A i + 4) = nI 0 := by rw [e24, uL_L, if_pos ⟨rfl, rfl⟩]; rfl
    have eV : uL V i 3 [] = V := aW_ext rfl (fun _ _ => rfl) (fun a k => by
      rw [uL_L]
      by_cases c : a = i ∧ k = 3
      · rw [if_pos c, c.1, c.2, h3]
      · rw [if_neg c]) (fun _ => rfl) rfl rfl rfl
    rw [fX1_stops_L67]
    simp only [gd_tr, letv_e, rv_e, onul_n, onul_s, ob_e, sI_I, sI_K, sI_L, sI_R, sI_n, sI_z, sR_R, sR_K, sR_L, sR_I, sR_n, sR_z, sN_n, sN_z, true_and, and_true, if_true, and_self, fa, e24]
    refine ok_iff (by decide) ?_
    have := k t (by
      have := Po.rf h
      rw [eV] at this ⊢
      exact this)
    exact this
  | cons q R ih =>
    intro V fuel t hf hl h hI hi h3 hR k
    rw [List.length_cons] at hf hl
    obtain ⟨fuel, rfl⟩ : ∃ n, fuel = n + 1 := ⟨fuel - 1, by omega⟩
    have hN : aN V ≤ 12 := h.sp.1
    have fa := h.fa (i := i) hi
    have fw := h.fw
    have hq0 := h.que (i := i) hi (k := 3) (by omega)
    have e24 : cI t 24 (A i + 4) = nI (R.length + 1) := by rw [hq0.len, uL_L, if_pos ⟨rfl, rfl⟩]; rfl
    obtain ⟨cs, q1, q2⟩ := hq0
    rw [uL_L, if_pos ⟨rfl, rfl⟩] at q2
    obtain ⟨j, hj, rfl⟩ := hR q List.mem_cons_self
    rw [fX1_stops_L67]
    simp only [gd_tr, letv_e, rv_e, onul_n, onul_s, ob_e, sI_I, sI_K, sI_L, sI_R, sI_n, sI_z, sR_R, sR_K, sR_L, sR_I, sR_n, sR_z, sN_n, sN_z, true_and, and_true, if_true, and_self, fa, fw, e24]
    refine ok_ift ((nI_lt0 (by omega)).mpr (by omega)) ?_
    cases cs with
    | nil => exact q2.elim
    | cons d cs =>
      obtain ⟨qd, qr⟩ := q2
      have qd : Vi t d.2 (nI j, nI 0) := qd
      have lcs : cs.length = R.length := by rw [← List.length_map Prod.snd]; exact qr.len
      refine ok_ob (qr_takes q1 h.wf (by omega)) (fun r t1 z => ?_)
      obtain ⟨rfl, r1, f1, e1, e2⟩ := z
      have f1' : Fr (Qc (A i + 1 + 3) (d :: cs)) t t1 := f1.mono (fun y _ z => Or.inl z)
      have qd1 := Vi_st _ _ _ _ _ h.wf f1 qd
      -- the row is shorter
      have h1 : Po P w A t t1 (uL V i 3 ((nI j, nI 0) :: R)) (uL (uL V i 3 ((nI j, nI 0) :: R)) i 3 R) 0 0 := by
        have := Pw_le (W := uL V i 3 ((nI j, nI 0) :: R)) (i := i) (k := 3) (xs := R) (by rw [uL_L, if_pos ⟨rfl, rfl⟩]; exact Nat.le_succ _)
        exact Po.qk h hi (by omega) q1 f1' ⟨cs, r1, qr.st (V := fun t => qV 3 t) Vi_st h.wf f1⟩ (by omega) (by omega)
      rw [uL3_uL3] at h1
      have hp : Ph (uL V i 3 ((nI j, nI 0) :: R)) = Ph (uL V i 3 R) + 2 := by
        have z1 := Ph_uL (W := V) (i := i) (k := 3) (xs := R) hi
        have z2 := Ph_uL (W := V) (i := i) (k := 3) (xs := (nI j, nI 0) :: R) hi
        have z3 : Pw (uL V i 3 ((nI j, nI 0) :: R)) i = Pw (uL V i 3 R) i + 2 := by
          unfold Pw
          rw [uL_L, if_neg (by omega), uL_L, if_pos ⟨rfl, rfl⟩, uL_L, if_neg (by omega), uL_L, if_pos ⟨rfl, rfl⟩, List.length_cons]
          omega
        omega
      have c1 := h1.1
      have fa1 := c1.fa (i := i) hi
      have fj1 := c1.fa (i := j) hj
      have fw1 := c1.fw
      have eint : fJ5_intValue d.2 t1 = some (nI j, t1) := by
        unfold fJ5_intValue
        simp only [gd_tr, letv_e, rv_e, onul_n, onul_s, ob_e, sI_I, sI_K, sI_L, sI_R, sI_n, sI_z, sR_R, sR_K, sR_L, sR_I, sR_n, sR_z, sN_n, sN_z, true_and, and_true, if_true, and_self, qd1.1, qd1.2]
      simp only [gd_tr, letv_e, rv_e, onul_n, onul_s, ob_e, sI_I, sI_K, sI_L, sI_R, sI_n, sI_z, sR_R, sR_K, sR_L, sR_I, sR_n, sR_z, sN_n, sN_z, true_and, and_true, if_true, and_self, cIn, qd1.1, eint, fw1, fj1, not_false_eq_true]
      obtain ⟨t2, d1, d2, d3, d4, d5⟩ := new_death (t := t1) (n := nI i) c1.wf
      have k5 : cK (sN t1 9 0 2) (A i) = 5 := by
        rw [sN_K, if_neg (fun e => by
          have := c1.lt fa1.2.2.1 (by decide)
          omega)]
        exact fa1.2.2.1
      have e26 : cI (sN t1 9 0 2) 26 (A i) = nI i := by
        rw [sN_I, if_neg (fun e => by
          have := c1.lt fa1.2.2.1 (by decide)
          omega)]
        exact fa1.2.2.2.1.1
      refine ok_gd k5 (ok_letv ?_)
      rw [e26]
      refine ok_obE d1 ?_
      have c2 : Po P w A t1 t2 (uL V i 3 R) (uL V i 3 R) 1 2 := Po.ne c1 d2 (by omega) (by omega)
      refine ok_gd c2.1.fw.1 ?_
      have hlive : aF (uL V i 3 R) j 5 = nI 0 ∨ aF (uL V i 3 R) j 5 = nI 1 := hI.live (a := j) hj
      have hcap : (aL (uL V i 3 R) j 1).length ≤ 12 := by
        rw [uL_L, if_neg (by omega)]
        exact (hI.act (a := j) hj).2.2.1.1
      refine ok_ob (cw_sends (m := (-1, nI 1000 + nI i)) c2.1 (i := j) hj hlive hcap (d3 i (by omega) rfl)) (fun r t3 z => ?_)
      obtain ⟨-, c3⟩ := z
      rw [aSends_uL3] at c3
      have m1 : aM V (aSends V j (-1, nI 1000 + nI i)).2 := aM_sends
      refine ih (aSends V j (-1, nI 1000 + nI i)).2 fuel t3 (by omega) (by omega) c3.1 (aI_sends hI (mOk_d hi)) (by rw [m1.1]; exact hi) ?_ (fun q hq => ?_) (fun t4 c4 => k t4 ?_)
      · unfold aSends
        split
        · rw [uL_L, if_neg (by omega)]; exact h3
        · exact h3
      · rw [m1.1]
        exact hR q (List.mem_cons_of_mem _ hq)
      · have e5 : aTold (-1, nI 1000 + nI i) ((nI j, nI 0) :: R) V = aTold (-1, nI 1000 + nI i) R (aSends V j (-1, nI 1000 + nI i)).2 := by
          show aTold _ R (aSends V (nI j).toNatClampNeg _).2 = _
          rw [nI_clamp (by omega)]
        rw [e5]
        obtain ⟨x1, x2, x3, x4, x5⟩ := (c2.trans (c3.trans c4))
        obtain ⟨y1, y2, y3, y4, y5⟩ := h1
        exact ⟨x1, y2.then x2, ⟨x3.1.trans y3.1, x3.2.trans y3.2⟩, by omega, by omega⟩
end CST
