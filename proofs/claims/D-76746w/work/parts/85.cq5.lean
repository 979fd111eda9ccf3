/-! THE COMPONENT: queues, the i-th; in order -/
section CQ5
variable {P P' S : Nat → Prop} {t t' t0 : cS} {q c x v m u pr : Nat} {most mo' : Int32} {cs : List (Nat × Nat)} {p : Nat × Nat → Bool}
theorem qr_atL : ∀ (R : List (Nat × Nat)) (ptr : Option Nat) (j fuel : Nat) (t1 : cS), R.length < fuel → j < 2 ^ 31 → cWf t1 → cK t1 v = 8 → cR t1 48 v = ptr → Ch P t1 q R ptr →
    Ok (fX2_at_L7 (some v) (fun t9 => some (none, t9)) fuel (nI j) t1) (fun r t' => r = (R[j]?).map Prod.snd ∧ Fr (fun y => y = v) t1 t' ∧ cn t' = cn t1 ∧ cz t' = cz t1) := by
  intro R
  induction R with
  | nil =>
    intro ptr j fuel t1 hf hj hw hv h48 hC
    obtain ⟨fuel, rfl⟩ : ∃ n, fuel = n + 1 := ⟨fuel - 1, by omega⟩
    have hC : ptr = none := hC
    rw [hC] at h48
    rw [fX2_at_L7]
    simp only [gd_tr, letv_e, rv_e, onul_n, onul_s, ob_e, sI_I, sI_K, sI_L, sI_R, sI_n, sI_z, sR_R, sR_K, sR_L, sR_I, sR_n, sR_z, sN_n, sN_z, true_and, and_true, if_true, and_self, hv, wk_none hv h48]
    exact ok_some ⟨by rw [List.getElem?_nil]; rfl, Fr.rf hw, rfl, rfl⟩
  | cons d R ih =>
    intro ptr j fuel t1 hf hj hw hv h48 hC
    rw [List.length_cons] at hf
    obtain ⟨fuel, rfl⟩ : ∃ n, fuel = n + 1 := ⟨fuel - 1, by omega⟩
    obtain ⟨hp, ⟨d1, d2, d3, d4⟩, hC2⟩ := hC
    rw [hp] at h48
    have mv : cMut (cK t1 v) = true := by rw [hv]; rfl
    have fs : Fr (fun y => y = v) t1 (sR t1 48 v (cR t1 46 d.1)) := fr_sR hw rfl mv
    have c8 : Ch P (sR t1 48 v (cR t1 46 d.1)) q R (cR t1 46 d.1) := hC2.fr hw fs (fun y hy _ e => by rw [e, hv] at hy; exact absurd hy (by decide))
    rw [fX2_at_L7]
    simp only [gd_tr, letv_e, rv_e, onul_n, onul_s, ob_e, sI_I, sI_K, sI_L, sI_R, sI_n, sI_z, sR_R, sR_K, sR_L, sR_I, sR_n, sR_z, sN_n, sN_z, true_and, and_true, if_true, and_self, hv, wk_some hv h48, wk_next hv h48 d1, d3]
    refine ok_iff (by decide) ?_
    cases j with
    | zero =>
      refine ok_ift rfl ?_
      exact ok_some ⟨rfl, fs, rfl, rfl⟩
    | succ j =>
      refine ok_iff (by rw [show (0 : Int32) = nI 0 from rfl]; exact nI_ne (by omega) (by omega) (by omega)) ?_
      rw [nI_m1, nI_sub (by omega), Nat.add_sub_cancel]
      refine ok_mono (ih (cR t1 46 d.1) j fuel _ (by omega) (by omega) hw hv (by rw [sR_R, if_pos ⟨rfl, rfl⟩]) c8) (fun r t' z => ?_)
      obtain ⟨z1, z2, z3, z4⟩ := z
      exact ⟨by rw [z1]; rfl, fs.then z2, z3, z4⟩
theorem qr_at {j : Nat} (h : Qr P t q most cs) (hw : cWf t) (hj : j < 2 ^ 31) (hl : cs.length < 4000) : Ok (fX2_at q (nI j) t) (fun r t' => r = (cs[j]?).map Prod.snd ∧ Fr (fun _ => False) t t' ∧ cn t' = cn t + 1 ∧ cz t' = cz t + 2) := by
  unfold fX2_at
  obtain ⟨t1, i1, i2, i3, i4, i5, i6, i7⟩ := q_iterO h hw
  simp only [gd_tr, letv_e, rv_e, onul_n, onul_s, ob_e, sI_I, sI_K, sI_L, sI_R, sI_n, sI_z, sR_R, sR_K, sR_L, sR_I, sR_n, sR_z, sN_n, sN_z, true_and, and_true, if_true, and_self, h.1.1, i1]
  refine ok_mono (qr_atL cs (cR t1 22 q) j FU t1 (by unfold FU; omega) hj i2.1.2 i3 i4 i5.2.2.2.1) (fun r t' z => ?_)
  obtain ⟨z1, z2, z3, z4⟩ := z
  exact ⟨z1, i2.trans z2 (fun y hy e => by omega), by rw [z3, i6], by rw [z4, i7]⟩
/-! in order -/
theorem qr_paL {v3 : Nat} {kx : Option Nat → cS → Option (Unit × cS)} {Q : Unit → cS → Prop} : ∀ (R A : List (Nat × Nat)) (ptr : Option Nat) (fuel : Nat), R.length < fuel → Ch P t q R ptr → (∀ d ∈ R, fD_is pr (some d.2) t = some (zb (p d), t)) →
    (∀ A' B, R = A' ++ B → (∀ d ∈ A', p d = false) → (∀ b, B.head? = some b → p b = true) → Ok (kx ((A ++ A').getLast?.map Prod.fst) t) Q) → Ok (fX2_putsAhead_L19 q (some pr) v3 kx fuel (A.getLast?.map Prod.fst) ptr t) Q := by
  intro R
  induction R with
  | nil =>
    intro A ptr fuel hf hC hp k
    obtain ⟨fuel, rfl⟩ : ∃ n, fuel = n + 1 := ⟨fuel - 1, by omega⟩
    have hC : ptr = none := hC
    subst hC
    rw [fX2_putsAhead_L19, onul_n]
    have := k [] [] rfl (fun _ h => by cases h) (fun _ h => by cases h)
    rw [List.append_nil] at this
    exact this
  | cons d R ih =>
    intro A ptr fuel hf hC hp k
    rw [List.length_cons] at hf
    obtain ⟨fuel, rfl⟩ : ∃ n, fuel = n + 1 := ⟨fuel - 1, by omega⟩
    obtain ⟨rfl, ⟨d1, d2, d3, d4⟩, hC2⟩ := hC
    rw [fX2_putsAhead_L19]
    simp only [gd_tr, letv_e, rv_e, onul_n, onul_s, ob_e, sI_I, sI_K, sI_L, sI_R, sI_n, sI_z, sR_R, sR_K, sR_L, sR_I, sR_n, sR_z, sN_n, sN_z, true_and, and_true, if_true, and_self, d1, d3, hp d List.mem_cons_self]
    cases hpd : p d with
    | true =>
      refine ok_iff (by decide) ?_
      have := k [] (d :: R) rfl (fun _ h => by cases h) (fun b hb => by cases hb; exact hpd)
      rw [List.append_nil] at this
      exact this
    | false =>
      refine ok_ift rfl ?_
      have e : some d.1 = (A ++ [d]).getLast?.map Prod.fst := by rw [List.getLast?_append]; rfl
      rw [e]
      refine ih (A ++ [d]) (cR t 46 d.1) fuel (by omega) hC2 (fun y hy => hp y (List.mem_cons_of_mem _ hy)) (fun A' B e1 e2 e3 => ?_)
      have := k (d :: A') B (by rw [e1]; rfl) (fun y hy => by
        rcases List.mem_cons.mp hy with z | z
        · rw [z]; exact hpd
        · exact e2 y z) e3
      rw [List.append_assoc]
      exact this
theorem Ch.ins {B : List (Nat × Nat)} (hc : cK t' c = 7 ∧ P c ∧ cR t' 45 c = some x ∧ cR t' 47 c = some q) (h46 : cR t' 46 c = B.head?.map Prod.fst) : ∀ (A : List (Nat × Nat)) (ptr : Option Nat), Ch P t q (A ++ B) ptr → (∀ d ∈ A ++ B, cK t' d.1 = 7 ∧ cR t' 45 d.1 = cR t 45 d.1 ∧ cR t' 47 d.1 = cR t 47 d.1) → (∀ d ∈ B, cR t' 46 d.1 = cR t 46 d.1) →
    (∀ d ∈ A, A.getLast? ≠ some d → cR t' 46 d.1 = cR t 46 d.1) → (∀ d, A.getLast? = some d → cR t' 46 d.1 = some c) → (A.map Prod.fst).Nodup → Ch P t' q (A ++ (c, x) :: B) (if A = [] then some c else ptr) := by
  intro A
  induction A with
  | nil =>
    intro ptr h e eB eA eL hn
    rw [if_pos rfl]
    refine ⟨rfl, hc, ?_⟩
    have h : Ch P t q B ptr := h
    have hp : ptr = B.head?.map Prod.fst := by
      cases B with
      | nil => exact h
      | cons b l => exact h.1
    rw [h46, ← hp]
    have : ∀ (B : List (Nat × Nat)) (ptr : Option Nat), Ch P t q B ptr → (∀ d ∈ B, cK t' d.1 = 7 ∧ cR t' 45 d.1 = cR t 45 d.1 ∧ cR t' 47 d.1 = cR t 47 d.1) → (∀ d ∈ B, cR t' 46 d.1 = cR t 46 d.1) → Ch P t' q B ptr := by
      intro B
      induction B with
      | nil => exact fun _ h _ _ => h
      | cons b l ih =>
        intro ptr h e e2
        obtain ⟨h1, ⟨h2, h3, h4, h5⟩, h6⟩ := h
        obtain ⟨k1, k2, k3⟩ := e b List.mem_cons_self
        refine ⟨h1, ⟨k1, h3, k2.trans h4, k3.trans h5⟩, ?_⟩
        rw [e2 b List.mem_cons_self]
        exact ih _ h6 (fun d hd => e d (List.mem_cons_of_mem _ hd)) (fun d hd => e2 d (List.mem_cons_of_mem _ hd))
    exact this B ptr h e eB
  | cons a A ih =>
    intro ptr h e eB eA eL hn
    rw [if_neg (by simp)]
    obtain ⟨h1, ⟨h2, h3, h4, h5⟩, h6⟩ := h
    obtain ⟨k1, k2, k3⟩ := e a List.mem_cons_self
    refine ⟨h1, ⟨k1, h3, k2.trans h4, k3.trans h5⟩, ?_⟩
    have := ih (cR t 46 a.1) h6 (fun d hd => e d (List.mem_cons_of_mem _ hd)) eB (fun d hd n => by
      cases A with
      | nil => cases hd
      | cons b l => exact eA d (List.mem_cons_of_mem _ hd) (by rw [List.getLast?_cons_cons]; exact n)) (fun d hd => by
      cases A with
      | nil => cases hd
      | cons b l => exact eL d (by rw [List.getLast?_cons_cons]; exact hd)) (List.nodup_cons.mp hn).2
    cases A with
    | nil =>
      rw [if_pos rfl] at this
      have e1 : cR t' 46 a.1 = some c := eL a rfl
      show Ch P t' q ([] ++ (c, x) :: B) (cR t' 46 a.1)
      rw [e1]
      exact this
    | cons b l =>
      rw [if_neg (by simp)] at this
      have e1 : cR t' 46 a.1 = cR t 46 a.1 := eA a List.mem_cons_self (fun z => by
        rw [List.getLast?_cons_cons] at z
        have z2 := List.mem_of_getLast? z
        exact (List.nodup_cons.mp hn).1 (List.mem_map_of_mem (f := Prod.fst) z2))
      show Ch P t' q ((b :: l) ++ (c, x) :: B) (cR t' 46 a.1)
      rw [e1]
      exact this
theorem Ch.nextof {B : List (Nat × Nat)} {d : Nat × Nat} : ∀ (A : List (Nat × Nat)) (ptr : Option Nat), Ch P t q (A ++ B) ptr → A.getLast? = some d → cR t 46 d.1 = B.head?.map Prod.fst := by
  intro A
  induction A with
  | nil => intro ptr h hl; cases hl
  | cons a A ih =>
    intro ptr h hl
    cases A with
    | nil =>
      cases hl
      have h : Ch P t q B (cR t 46 a.1) := h.2.2
      cases B with
      | nil => exact h
      | cons b l => exact h.1
    | cons b l =>
      rw [List.getLast?_cons_cons] at hl
      exact ih _ h.2.2 hl
theorem qr_putsAhead (h : Qr P t q most cs) (hw : cWf t) (hl : cs.length < 4000) (hP : P (cn t)) (hp : ∀ t', Fr (fun _ => False) t t' → ∀ d ∈ cs, fD_is pr (some d.2) t' = some (zb (p d), t')) : Ok (fX2_putsAhead q (some x) (some pr) t) (fun _ t' => (∃ A B, cs = A ++ B ∧ (∀ d ∈ A, p d = false) ∧ (∀ b, B.head? = some b → p b = true) ∧ Qr P t' q most (A ++ (cn t, x) :: B)) ∧ Fr (Qc q cs) t t' ∧ cn t' = cn t + 1 ∧ cz t' = cz t + 3) := by
  have hq := h.q_lt hw
  have h1 := h.1.1
  have k7 : cK (sN t 7 0 3) (cn t) = 7 := by rw [sN_K, if_pos rfl]
  have e8 : fX8_init (cn t) (some q) (some x) (sN t 7 0 3) = some ((), sR (sR (sN t 7 0 3) 47 (cn t) (some q)) 45 (cn t) (some x)) := by
    unfold fX8_init
    simp only [gd_tr, letv_e, rv_e, onul_n, onul_s, ob_e, sI_I, sI_K, sI_L, sI_R, sI_n, sI_z, sR_R, sR_K, sR_L, sR_I, sR_n, sR_z, sN_n, sN_z, true_and, and_true, if_true, and_self, k7]
  unfold fX2_putsAhead
  refine ok_letv ?_
  refine ok_obE e8 ?_
  have f0 : ∀ {S : Nat → Prop}, Fr S t (sR (sR (sN t 7 0 3) 47 (cn t) (some q)) 45 (cn t) (some x)) := fr_nR (fr_nR (fr_sN hw) (Nat.le_refl _)) (Nat.le_refl _)
  have w0 := (f0 (S := fun _ => False)).1.2
  have r0 : Qr P (sR (sR (sN t 7 0 3) 47 (cn t) (some q)) 45 (cn t) (some x)) q most cs := h.fr0 hw f0
  have hp0 := hp _ f0
  have n7 : cK (sR (sR (sN t 7 0 3) 47 (cn t) (some q)) 45 (cn t) (some x)) (cn t) = 7 := k7
  have n45 : cR (sR (sR (sN t 7 0 3) 47 (cn t) (some q)) 45 (cn t) (some x)) 45 (cn t) = some x := by simp [sR_R]
  have n47 : cR (sR (sR (sN t 7 0 3) 47 (cn t) (some q)) 45 (cn t) (some x)) 47 (cn t) = some q := by simp [sR_R]
  have e1 : cn (sR (sR (sN t 7 0 3) 47 (cn t) (some q)) 45 (cn t) (some x)) = cn t + 1 := rfl
  have e2 : cz (sR (sR (sN t 7 0 3) 47 (cn t) (some q)) 45 (cn t) (some x)) = cz t + 3 := rfl
  have kq : cK (sN t 7 0 3) q = 3 := by rw [sN_K, if_neg (by omega)]; exact h1
  refine ok_gd kq (ok_letv ?_)
  have f0 : Fr (Qc q cs) t (sR (sR (sN t 7 0 3) 47 (cn t) (some q)) 45 (cn t) (some x)) := f0
  have hlt : ∀ d ∈ cs, d.1 < cn t := fun d hd => h.c_lt hw hd
  generalize sR (sR (sN t 7 0 3) 47 (cn t) (some q)) 45 (cn t) (some x) = t1 at f0 w0 r0 hp0 n7 n45 n47 e1 e2 ⊢
  clear hp kq k7 h e8
  obtain ⟨⟨q1, q2, q3, q4⟩, q5, q6, q7, q8⟩ := r0
  have mq : cMut (cK t1 q) = true := by rw [q1]; rfl
  have mc : cMut (cK t1 (cn t)) = true := by rw [n7]; rfl
  refine qr_paL (P := P) (q := q) (p := p) cs [] (cR t1 22 q) FU (by unfold FU; omega) q7 hp0 (fun A B eAB hA hB => ?_)
  rw [List.nil_append]
  have hnd : (A.map Prod.fst).Nodup := by
    rw [eAB, List.map_append] at q8
    exact (List.nodup_append.mp q8).1
  have cell : ∀ d ∈ cs, cK t1 d.1 = 7 ∧ d.1 ≠ q ∧ d.1 ≠ cn t := fun d hd => by
    obtain ⟨z1, -⟩ := q7.cell d hd
    refine ⟨z1, fun e => ?_, fun e => ?_⟩
    · rw [e, q1] at z1; exact absurd z1 (by decide)
    · have := hlt d hd
      omega
  have nqc : ¬ q = cn t := by omega
  -- the chain ahead of it, and the end
  have nd : ((A ++ (cn t, x) :: B).map Prod.fst).Nodup := by
    rw [eAB, List.map_append] at q8
    obtain ⟨z1, z2, z3⟩ := List.nodup_append.mp q8
    rw [List.map_append, List.map_cons]
    refine List.nodup_append.mpr ⟨z1, List.nodup_cons.mpr ⟨fun z => ?_, z2⟩, fun a ha b hb e => ?_⟩
    · obtain ⟨d, hd, e⟩ := List.mem_map.mp z
      have := hlt d (by rw [eAB]; exact List.mem_append_right _ hd)
      have e : d.1 = cn t := e
      omega
    · rcases List.mem_cons.mp hb with z | z
      · obtain ⟨d, hd, e3⟩ := List.mem_map.mp ha
        have := hlt d (by rw [eAB]; exact List.mem_append_left _ hd)
        have z : b = cn t := z
        omega
      · exact z3 a ha b z e
  have ln : nI cs.length + nI 1 = nI (A ++ (cn t, x) :: B).length := by
    rw [nI_add, eAB, List.length_append, List.length_append, List.length_cons]
    congr 1
  -- what the end does, once the chain is linked
  have fin : ∀ t2 : cS, Fr (Qc q cs) t t2 → cn t2 = cn t1 → cz t2 = cz t1 → (cK t2 q = 3 ∧ cI t2 21 q = most ∧ cI t2 24 q = nI cs.length) → cK t2 (cn t) = 7 → cR t2 46 (cn t) = B.head?.map Prod.fst → cR t2 22 q = (A ++ (cn t, x) :: B).head?.map Prod.fst → cR t2 23 q = cs.getLast?.map Prod.fst → Ch P t2 q (A ++ (cn t, x) :: B) (cR t2 22 q) →
      Ok (gd (cK t2 (cn t) = 7) (letv (cR t2 46 (cn t)) (fun x19 => jn (fun (x20 : Option Nat) (t21 : cS) => gd (cK t21 q = 3) (letv (sR t21 23 q x20) (fun s23 => gd (cK s23 q = 3) (letv (cI s23 24 q) (fun x24 => gd (cK s23 q = 3) (letv (sI s23 24 q (x24 + nI 1)) (fun s25 => some ((), s25)))))))) (fun (j22 : Option Nat → cS → Option (Unit × cS)) => onul x19 (j22 (some (cn t)) t2) (fun a26 => gd (cK t2 q = 3) (letv (cR t2 23 q) (fun x27 => j22 x27 t2))))))) (fun _ t' => (∃ A B, cs = A ++ B ∧ (∀ d ∈ A, p d = false) ∧ (∀ b, B.head? = some b → p b = true) ∧ Qr P t' q most (A ++ (cn t, x) :: B)) ∧ Fr (Qc q cs) t t' ∧ cn t' = cn t + 1 ∧ cz t' = cz t + 3) := by
    intro t2 f2 d1 d2 ⟨k1, k3, k4⟩ k5 k6 k7 k8 k9
    have w2 := f2.1.2
    have m2 : cMut (cK t2 q) = true := by rw [k1]; rfl
    have key : ∀ last, last = (A ++ (cn t, x) :: B).getLast?.map Prod.fst → Ok (gd (cK t2 q = 3) (letv (sR t2 23 q last) (fun s23 => gd (cK s23 q = 3) (letv (cI s23 24 q) (fun x24 => gd (cK s23 q = 3) (letv (sI s23 24 q (x24 + nI 1)) (fun s25 => some ((), s25)))))))) (fun _ t' => (∃ A B, cs = A ++ B ∧ (∀ d ∈ A, p d = false) ∧ (∀ b, B.head? = some b → p b = true) ∧ Qr P t' q most (A ++ (cn t, x) :: B)) ∧ Fr (Qc q cs) t t' ∧ cn t' = cn t + 1 ∧ cz t' = cz t + 3) := by
      intro last hlast
      simp only [gd_tr, letv_e, rv_e, onul_n, onul_s, ob_e, sI_I, sI_K, sI_L, sI_R, sI_n, sI_z, sR_R, sR_K, sR_L, sR_I, sR_n, sR_z, sN_n, sN_z, true_and, and_true, if_true, and_self, k1, k4, ln]
      have g : Fr (fun y => y = q) t2 (sI (sR t2 23 q last) 24 q (nI (A ++ (cn t, x) :: B).length)) := Fr.then (fr_sR w2 rfl m2) (fr_sI w2 rfl m2)
      refine ok_some ⟨⟨A, B, eAB, hA, hB, ⟨⟨k1, q2, ?_, ?_⟩, ?_, ?_, ?_, nd⟩⟩, f2.trans g (fun y _ z => Or.inl z), d1.trans e1, d2.trans e2⟩
      · rw [sI_I, if_neg (by omega)]; exact k3
      · rw [sI_I, if_pos ⟨rfl, rfl⟩]
      · rw [sI_R, sR_R, if_neg (by omega)]; exact k7
      · rw [sI_R, sR_R, if_pos ⟨rfl, rfl⟩]; exact hlast
      · rw [sI_R, sR_R, if_neg (by omega)]
        refine k9.eq (fun d hd => g.eq (w2.lt (by rw [(k9.cell d hd).1]; decide)) (fun e => ?_))
        have := (k9.cell d hd).1
        rw [e, k1] at this
        exact absurd this (by decide)
    simp only [gd_tr, letv_e, rv_e, onul_n, onul_s, ob_e, sI_I, sI_K, sI_L, sI_R, sI_n, sI_z, sR_R, sR_K, sR_L, sR_I, sR_n, sR_z, sN_n, sN_z, true_and, and_true, if_true, and_self, k5, k6, jn]
    cases B with
    | nil =>
      exact key _ (by rw [List.getLast?_append]; rfl)
    | cons b l =>
      refine ok_gd k1 (ok_letv (key _ ?_))
      rw [k8, eAB, List.getLast?_append, List.getLast?_append, List.getLast?_cons_cons]
  have n46 : ∀ y, Fr (Qc q cs) t (sR t1 46 (cn t) y) := fun y => fr_nR f0 (Nat.le_refl _)
  cases hL : A.getLast? with
  | none =>
    have eA : A = [] := List.getLast?_eq_none_iff.mp hL
    subst eA
    have eB : cs = B := eAB
    rw [Option.map_none]
    refine ok_jn ?_
    rw [onul_n]
    refine ok_gd q1 (ok_letv ?_)
    refine ok_gd n7 (ok_letv ?_)
    refine ok_jn ?_
    rw [onul_n]
    refine ok_gd q1 (ok_letv ?_)
    have e46 : cR (sR (sR t1 46 (cn t) (cR t1 22 q)) 22 q (some (cn t))) 46 (cn t) = B.head?.map Prod.fst := by
      rw [sR_R, if_neg (by omega), sR_R, if_pos ⟨rfl, rfl⟩, q5, eB]
    have e22 : cR (sR (sR t1 46 (cn t) (cR t1 22 q)) 22 q (some (cn t))) 22 q = some (cn t) := by rw [sR_R, if_pos ⟨rfl, rfl⟩]
    refine fin (sR (sR t1 46 (cn t) (cR t1 22 q)) 22 q (some (cn t))) ((n46 _).then (fr_sR (n46 (cR t1 22 q)).1.2 (Or.inl rfl) mq)) rfl rfl ⟨q1, q3, q4⟩ n7 e46 e22 ?_ ?_
    · rw [sR_R, if_neg (by omega), sR_R, if_neg (by omega)]; exact q6
    · rw [e22]
      have := Ch.ins (P := P) (t := t1) (t' := sR (sR t1 46 (cn t) (cR t1 22 q)) 22 q (some (cn t))) (q := q) (c := cn t) (x := x) (B := B) ⟨n7, hP, ?_, ?_⟩ e46 [] (cR t1 22 q) (by rw [← eB]; exact q7) (fun d hd => ?_) (fun d hd => ?_) (fun d hd => by cases hd) (fun d hd => by cases hd) List.nodup_nil
      · rw [if_pos rfl] at this
        exact this
      · rw [sR_R, if_neg (by omega), sR_R, if_neg (by omega)]; exact n45
      · rw [sR_R, if_neg (by omega), sR_R, if_neg (by omega)]; exact n47
      · obtain ⟨z1, z2, z3⟩ := cell d (by rw [eB]; exact hd)
        exact ⟨z1, by rw [sR_R, if_neg (by omega), sR_R, if_neg (by omega)], by rw [sR_R, if_neg (by omega), sR_R, if_neg (by omega)]⟩
      · obtain ⟨z1, z2, z3⟩ := cell d (by rw [eB]; exact hd)
        rw [sR_R, if_neg (by omega), sR_R, if_neg (by omega)]
  | some d =>
    have hdA : d ∈ A := List.mem_of_getLast? hL
    have hd : d ∈ cs := by rw [eAB]; exact List.mem_append_left _ hdA
    obtain ⟨d1, d2, d3⟩ := cell d hd
    have md : cMut (cK t1 d.1) = true := by rw [d1]; rfl
    have enx : cR t1 46 d.1 = B.head?.map Prod.fst := Ch.nextof A (cR t1 22 q) (by rw [← eAB]; exact q7) hL
    have hA0 : A ≠ [] := fun e => by rw [e] at hdA; cases hdA
    rw [Option.map_some]
    refine ok_jn ?_
    rw [onul_s]
    refine ok_gd d1 (ok_letv ?_)
    refine ok_gd n7 (ok_letv ?_)
    refine ok_jn ?_
    rw [onul_s]
    refine ok_gd d1 (ok_letv ?_)
    have e46 : cR (sR (sR t1 46 (cn t) (cR t1 46 d.1)) 46 d.1 (some (cn t))) 46 (cn t) = B.head?.map Prod.fst := by
      rw [sR_R, if_neg (by omega), sR_R, if_pos ⟨rfl, rfl⟩, enx]
    have e22 : cR (sR (sR t1 46 (cn t) (cR t1 46 d.1)) 46 d.1 (some (cn t))) 22 q = cR t1 22 q := by
      rw [sR_R, if_neg (by omega), sR_R, if_neg (by omega)]
    have hmem : d.1 ∈ cs.map Prod.fst := List.mem_map_of_mem (f := Prod.fst) hd
    refine fin (sR (sR t1 46 (cn t) (cR t1 46 d.1)) 46 d.1 (some (cn t))) ((n46 _).then (fr_sR (n46 (cR t1 46 d.1)).1.2 (Or.inr hmem) md)) rfl rfl ⟨q1, q3, q4⟩ n7 e46 ?_ ?_ ?_
    · rw [e22, q5, eAB]
      cases A with
      | nil => exact absurd rfl hA0
      | cons a l => rfl
    · rw [sR_R, if_neg (by omega), sR_R, if_neg (by omega)]; exact q6
    · rw [e22]
      have := Ch.ins (P := P) (t := t1) (t' := sR (sR t1 46 (cn t) (cR t1 46 d.1)) 46 d.1 (some (cn t))) (q := q) (c := cn t) (x := x) (B := B) ⟨n7, hP, ?_, ?_⟩ e46 A (cR t1 22 q) (by rw [← eAB]; exact q7) (fun e he => ?_) (fun e he => ?_) (fun e he n => ?_) (fun e he => ?_) hnd
      · rw [if_neg hA0] at this
        exact this
      · rw [sR_R, if_neg (by omega), sR_R, if_neg (by omega)]; exact n45
      · rw [sR_R, if_neg (by omega), sR_R, if_neg (by omega)]; exact n47
      · rw [← eAB] at he
        obtain ⟨z1, z2, z3⟩ := cell e he
        exact ⟨z1, by rw [sR_R, if_neg (by omega), sR_R, if_neg (by omega)], by rw [sR_R, if_neg (by omega), sR_R, if_neg (by omega)]⟩
      · obtain ⟨z1, z2, z3⟩ := cell e (by rw [eAB]; exact List.mem_append_right _ he)
        have ne : e.1 ≠ d.1 := fun z => by
          rw [eAB, List.map_append] at q8
          exact (List.nodup_append.mp q8).2.2 d.1 (List.mem_map_of_mem (f := Prod.fst) hdA) e.1 (List.mem_map_of_mem (f := Prod.fst) he) z.symm
        rw [sR_R, if_neg (fun z => ne z.2), sR_R, if_neg (by omega)]
      · obtain ⟨z1, z2, z3⟩ := cell e (by rw [eAB]; exact List.mem_append_left _ he)
        have ne : e.1 ≠ d.1 := fun z => by
          -- in A the cells differ
          have : ∀ l : List (Nat × Nat), (l.map Prod.fst).Nodup → e ∈ l → d ∈ l → e.1 = d.1 → e = d := by
            intro l
            induction l with
            | nil => intro _ h; cases h
            | cons b l ih =>
              intro hn h1 h2 he
              obtain ⟨m1, m2⟩ := List.nodup_cons.mp hn
              rcases List.mem_cons.mp h1 with w1 | w1
              · rcases List.mem_cons.mp h2 with w2 | w2
                · rw [w1, w2]
                · rw [w1] at he
                  exact absurd (by rw [he]; exact List.mem_map_of_mem (f := Prod.fst) w2) m1
              · rcases List.mem_cons.mp h2 with w2 | w2
                · rw [w2] at he
                  exact absurd (by rw [← he]; exact List.mem_map_of_mem (f := Prod.fst) w1) m1
                · exact ih m2 w1 w2 he
          have := this A hnd he hdA z
          rw [this] at n
          exact n hL
        rw [sR_R, if_neg (fun z => ne z.2), sR_R, if_neg (by omega)]
      · rw [hL] at he
        cases he
        rw [sR_R, if_pos ⟨rfl, rfl⟩]
end CQ5
