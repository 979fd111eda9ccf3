/-! THE COMPONENT: queues -/
section CQ
variable {P S : Nat → Prop} {t t' : cS} {q c x : Nat} {most : Int32} {cs : List (Nat × Nat)}
/-- the same, where queue and cells stay -/
theorem Qr.fr1 (h : Qr P t q most cs) (hw : cWf t) (f : Fr S t t') (n0 : ¬ S q) (n : ∀ c ∈ cs, ¬ S c.1) : Qr P t' q most cs := by
  obtain ⟨⟨h1, h2, h3, h4⟩, h5, h6, h7, h8⟩ := h
  obtain ⟨e1, e2, e3, e4⟩ := f.eq (hw.lt (x := q) (by rw [h1]; decide)) n0
  refine ⟨⟨e1.trans h1, h2, (e3 21).trans h3, (e3 24).trans h4⟩, (e4 22).trans h5, (e4 23).trans h6, ?_, h8⟩
  rw [e4 22]
  refine h7.eq (fun c hc => ?_)
  obtain ⟨c1, c2, c3, c4⟩ := h7.cell c hc
  exact f.eq (hw.lt (by rw [c1]; decide)) (n c hc)
/-- another queue changes -/
theorem Qr.fr2 {cs' : List (Nat × Nat)} {q' : Nat} {most' : Int32} {P' : Nat → Prop} (h : Qr P t q most cs) (hw : cWf t) (h' : Qr P' t q' most' cs') (n : q ≠ q') (f : Fr (Qc q' cs') t t') : Qr P t' q most cs := h.fr1 hw f (h.neq h' n) (fun _ hc => h.ne h' n hc)
theorem Ch.snoc {d : Nat × Nat} (hc : cK t' c = 7 ∧ P c ∧ cR t' 45 c = some x ∧ cR t' 47 c = some q) (h46 : cR t' 46 c = none) (e : ∀ y, cK t y = 7 → y ≠ d.1 → cR t' 46 y = cR t 46 y) (e' : ∀ y, cK t y = 7 → cK t' y = 7 ∧ cR t' 45 y = cR t 45 y ∧ cR t' 47 y = cR t 47 y) (ed : cR t' 46 d.1 = some c) : ∀ (l : List (Nat × Nat)) (p : Option Nat), Ch P t q l p → l.getLast? = some d → (l.map Prod.fst).Nodup → Ch P t' q (l ++ [(c, x)]) p := by
  intro l
  induction l with
  | nil => intro p _ h; cases h
  | cons a l ih =>
    intro p h hl hn
    obtain ⟨h1, ⟨h2, h3, h4, h5⟩, h6⟩ := h
    obtain ⟨k1, k2, k3⟩ := e' a.1 h2
    refine ⟨h1, ⟨k1, h3, k2.trans h4, k3.trans h5⟩, ?_⟩
    cases l with
    | nil =>
      have e9 : a = d := by simpa using hl
      subst e9
      show Ch P t' q [(c, x)] (cR t' 46 a.1)
      rw [ed]
      exact ⟨rfl, hc, h46⟩
    | cons b m =>
      have hl : (b :: m).getLast? = some d := by rw [← hl, List.getLast?_cons_cons]
      have hd : d ∈ b :: m := List.mem_of_getLast? hl
      have ne : a.1 ≠ d.1 := fun q => (List.nodup_cons.mp hn).1 (by rw [q]; exact List.mem_map_of_mem (f := Prod.fst) hd)
      rw [e a.1 h2 ne]
      exact ih _ h6 hl (List.nodup_cons.mp hn).2
theorem qr_links (h : Qr P t q most cs) (hw : cWf t) (hc : cK t c = 7 ∧ P c ∧ cR t 45 c = some x ∧ cR t 47 c = some q) (h46 : cR t 46 c = none) (hn : c ∉ cs.map Prod.fst) : Ok (fX2_links q (some c) t) (fun _ t' => Qr P t' q most (cs ++ [(c, x)]) ∧ Fr (Qc q cs) t t' ∧ cn t' = cn t ∧ cz t' = cz t) := by
  obtain ⟨⟨h1, h2, h3, h4⟩, h5, h6, h7, h8⟩ := h
  have hcq : c ≠ q := fun e => by rw [e, h1] at hc; exact absurd hc.1 (by decide)
  have mq : cMut (cK t q) = true := by rw [h1]; rfl
  have nd : ((cs ++ [(c, x)]).map Prod.fst).Nodup := by
    rw [List.map_append]
    exact List.nodup_append.mpr ⟨h8, by simp, fun a ha b hb e => hn (by
      have e3 : b = c := List.mem_singleton.mp hb
      rw [← e3, ← e]; exact ha)⟩
  have ln : nI cs.length + nI 1 = nI (cs ++ [(c, x)]).length := by rw [nI_add, List.length_append]; rfl
  unfold fX2_links
  simp only [gd_tr, letv_e, rv_e, onul_n, onul_s, ob_e, sI_I, sI_K, sI_L, sI_R, sI_n, sI_z, sR_R, sR_K, sR_L, sR_I, sR_n, sR_z, sN_n, sN_z, true_and, and_true, if_true, and_self, h1, h6, jn]
  cases hl : cs.getLast? with
  | none =>
    have e : cs = [] := List.getLast?_eq_none_iff.mp hl
    subst e
    simp only [gd_tr, letv_e, rv_e, onul_n, onul_s, ob_e, sI_I, sI_K, sI_L, sI_R, sI_n, sI_z, sR_R, sR_K, sR_L, sR_I, sR_n, sR_z, sN_n, sN_z, true_and, and_true, if_true, and_self, h1, h4, Option.map_none]
    refine ok_some ⟨⟨⟨h1, h2, h3, ?_⟩, ?_, ?_, ?_, nd⟩, ?_, rfl, rfl⟩
    · simp only [gd_tr, letv_e, rv_e, onul_n, onul_s, ob_e, sI_I, sI_K, sI_L, sI_R, sI_n, sI_z, sR_R, sR_K, sR_L, sR_I, sR_n, sR_z, sN_n, sN_z, true_and, and_true, if_true, and_self]; exact ln
    · simp only [gd_tr, letv_e, rv_e, onul_n, onul_s, ob_e, sI_I, sI_K, sI_L, sI_R, sI_n, sI_z, sR_R, sR_K, sR_L, sR_I, sR_n, sR_z, sN_n, sN_z, true_and, and_true, if_true, and_self]; rfl
    · simp only [gd_tr, letv_e, rv_e, onul_n, onul_s, ob_e, sI_I, sI_K, sI_L, sI_R, sI_n, sI_z, sR_R, sR_K, sR_L, sR_I, sR_n, sR_z, sN_n, sN_z, true_and, and_true, if_true, and_self]; rfl
    · simp only [gd_tr, letv_e, rv_e, onul_n, onul_s, ob_e, sI_I, sI_K, sI_L, sI_R, sI_n, sI_z, sR_R, sR_K, sR_L, sR_I, sR_n, sR_z, sN_n, sN_z, true_and, and_true, if_true, and_self]
      exact ⟨by simp, hc, (show cR _ 46 c = none by simpa [sI_R, sR_R] using h46)⟩
    · refine Fr.then (fr_sR hw (Or.inl rfl) mq) (Fr.then (fr_sR ?_ (Or.inl rfl) mq) (fr_sI ?_ (Or.inl rfl) mq)) <;> exact hw
  | some d =>
    have hd := List.mem_of_getLast? hl
    obtain ⟨d1, d2, d3, d4⟩ := h7.cell d hd
    have md : cMut (cK t d.1) = true := by rw [d1]; rfl
    have hdq : d.1 ≠ q := fun e => by rw [e, h1] at d1; exact absurd d1 (by decide)
    have hdc : c ≠ d.1 := fun e => hn (by rw [e]; exact List.mem_map_of_mem (f := Prod.fst) hd)
    simp only [gd_tr, letv_e, rv_e, onul_n, onul_s, ob_e, sI_I, sI_K, sI_L, sI_R, sI_n, sI_z, sR_R, sR_K, sR_L, sR_I, sR_n, sR_z, sN_n, sN_z, true_and, and_true, if_true, and_self, h1, h4, h6, hl, d1, Option.map_some]
    refine ok_some ⟨⟨⟨h1, h2, h3, ?_⟩, ?_, ?_, ?_, nd⟩, ?_, rfl, rfl⟩
    · simp only [gd_tr, letv_e, rv_e, onul_n, onul_s, ob_e, sI_I, sI_K, sI_L, sI_R, sI_n, sI_z, sR_R, sR_K, sR_L, sR_I, sR_n, sR_z, sN_n, sN_z, true_and, and_true, if_true, and_self]; exact ln
    · rw [List.head?_append]
      have e2 : cs.head? = some (cs.head (fun e => by rw [e] at hd; cases hd)) := List.head?_eq_some_head _
      simp only [gd_tr, letv_e, rv_e, onul_n, onul_s, ob_e, sI_I, sI_K, sI_L, sI_R, sI_n, sI_z, sR_R, sR_K, sR_L, sR_I, sR_n, sR_z, sN_n, sN_z, true_and, and_true, if_true, and_self]
      rw [h5, e2]
      rfl
    · simp only [gd_tr, letv_e, rv_e, onul_n, onul_s, ob_e, sI_I, sI_K, sI_L, sI_R, sI_n, sI_z, sR_R, sR_K, sR_L, sR_I, sR_n, sR_z, sN_n, sN_z, true_and, and_true, if_true, and_self]; rw [List.getLast?_append]; rfl
    · show Ch P _ q _ (if 22 = 23 ∧ q = q then some c else if 22 = 46 ∧ q = d.1 then some c else cR t 22 q)
      rw [if_neg (by omega), if_neg (by omega)]
      refine Ch.snoc (t := t) (t' := sI (sR (sR t 46 d.1 (some c)) 23 q (some c)) 24 q (nI cs.length + nI 1)) (d := d) ⟨hc.1, hc.2.1, hc.2.2.1, hc.2.2.2⟩ ?_ (fun y hy ne => ?_) (fun y hy => ⟨hy, rfl, rfl⟩) ?_ _ _ h7 hl h8
      · simp [sI_R, sR_R, h46, hdc]
      · simp [sI_R, sR_R, ne]
      · simp [sI_R, sR_R]
    · refine Fr.then (fr_sR hw (Or.inr (List.mem_map_of_mem (f := Prod.fst) hd)) md) (Fr.then (fr_sR ?_ (Or.inl rfl) mq) (fr_sI ?_ (Or.inl rfl) mq)) <;> exact hw
end CQ
