/-! timers in order -/
section TSO
variable {x : Int32 × Int32 × Int32} {f : Int32 × Int32 × Int32 → Bool}
def Srt (l : List (Int32 × Int32 × Int32)) : Prop := l.Pairwise (fun a b => ¬ b.2.1 < a.2.1)
theorem i_lt_of {a b c : Int32} (h : a < b) (k : ¬ c < b) : a < c := i_lt.mpr (by
  have h1 := i_lt.mp h
  have h2 : ¬ c.toInt < b.toInt := fun z => k (i_lt.mpr z)
  omega)
theorem i_le_tr {a b c : Int32} (h : ¬ b < a) (k : ¬ c < b) : ¬ c < a := fun z => by
  have h1 : ¬ b.toInt < a.toInt := fun z => h (i_lt.mpr z)
  have h2 : ¬ c.toInt < b.toInt := fun z => k (i_lt.mpr z)
  have h3 := i_lt.mp z
  omega
theorem i_asym {a b : Int32} (h : a < b) : ¬ b < a := fun z => by
  have h1 := i_lt.mp h
  have h3 := i_lt.mp z
  omega
theorem tIns_all : ∀ {l : List (Int32 × Int32 × Int32)}, (∀ z ∈ l, x.2.1 < z.2.1) → tIns x l = x :: l
  | [], _ => rfl
  | y :: l, h => by
    unfold tIns
    rw [if_pos (h y List.mem_cons_self)]
theorem tIns_mem {z : Int32 × Int32 × Int32} : ∀ {l : List (Int32 × Int32 × Int32)}, z ∈ tIns x l → z = x ∨ z ∈ l
  | [], h => by rcases List.mem_cons.mp h with e | e; exact Or.inl e; cases e
  | y :: l, h => by
    unfold tIns at h
    split at h
    · rcases List.mem_cons.mp h with e | e
      · exact Or.inl e
      · exact Or.inr e
    · rcases List.mem_cons.mp h with e | e
      · exact Or.inr (by rw [e]; exact List.mem_cons_self)
      · rcases tIns_mem e with e | e
        · exact Or.inl e
        · exact Or.inr (List.mem_cons_of_mem _ e)
theorem tIns_srt : ∀ {l : List (Int32 × Int32 × Int32)}, Srt l → Srt (tIns x l)
  | [], _ => List.pairwise_singleton _ _
  | y :: l, h => by
    obtain ⟨h1, h2⟩ := List.pairwise_cons.mp h
    unfold tIns
    by_cases c : x.2.1 < y.2.1
    · rw [if_pos c]
      refine List.pairwise_cons.mpr ⟨fun z hz => ?_, h⟩
      rcases List.mem_cons.mp hz with e | e
      · rw [e]; exact i_asym c
      · exact i_asym (i_lt_of c (h1 z e))
    · rw [if_neg c]
      refine List.pairwise_cons.mpr ⟨fun z hz => ?_, tIns_srt h2⟩
      rcases tIns_mem hz with e | e
      · rw [e]; exact c
      · exact h1 z e
theorem tIns_filter : ∀ {l : List (Int32 × Int32 × Int32)}, Srt l → (tIns x l).filter f = if f x then tIns x (l.filter f) else l.filter f
  | [], _ => by
    cases hf : f x with
    | true => rw [if_pos rfl]; show [x].filter f = [x]; rw [List.filter_cons_of_pos hf]; rfl
    | false => rw [if_neg (by decide)]; show [x].filter f = []; rw [List.filter_cons_of_neg (by rw [hf]; decide)]; rfl
  | y :: l, h => by
    obtain ⟨h1, h2⟩ := List.pairwise_cons.mp h
    rw [show tIns x (y :: l) = if x.2.1 < y.2.1 then x :: y :: l else y :: tIns x l from rfl]
    by_cases c : x.2.1 < y.2.1
    · rw [if_pos c]
      cases hf : f x with
      | true =>
        rw [if_pos rfl, List.filter_cons_of_pos hf]
        refine (tIns_all (fun z hz => ?_)).symm
        have hz := (List.mem_filter.mp hz).1
        rcases List.mem_cons.mp hz with e | e
        · rw [e]; exact c
        · exact i_lt_of c (h1 z e)
      | false => rw [if_neg (by decide), List.filter_cons_of_neg (by rw [hf]; decide)]
    · rw [if_neg c]
      have ih := tIns_filter (l := l) h2
      cases hy : f y with
      | true =>
        rw [List.filter_cons_of_pos hy, List.filter_cons_of_pos hy, ih]
        cases hf : f x with
        | true =>
          rw [if_pos rfl, if_pos rfl]
          show _ = (if x.2.1 < y.2.1 then x :: y :: l.filter f else y :: tIns x (l.filter f))
          rw [if_neg c]
        | false => rw [if_neg (by decide), if_neg (by decide)]
      | false => rw [List.filter_cons_of_neg (by rw [hy]; decide), List.filter_cons_of_neg (by rw [hy]; decide), ih]
theorem tSo_snoc (T : List (Int32 × Int32 × Int32)) : tSo (T ++ [x]) = tIns x (tSo T) := by
  unfold tSo
  rw [List.foldl_append]
  rfl
theorem srt_fold : ∀ (T l : List (Int32 × Int32 × Int32)), Srt l → Srt (T.foldl (fun l x => tIns x l) l)
  | [], _, h => h
  | y :: T, l, h => srt_fold T (tIns y l) (tIns_srt h)
theorem tSo_srt (T : List (Int32 × Int32 × Int32)) : Srt (tSo T) := srt_fold T [] List.Pairwise.nil
theorem fold_filter : ∀ (T l : List (Int32 × Int32 × Int32)), Srt l → (T.filter f).foldl (fun l x => tIns x l) (l.filter f) = (T.foldl (fun l x => tIns x l) l).filter f
  | [], _, _ => rfl
  | y :: T, l, h => by
    have ih := fold_filter T (tIns y l) (tIns_srt h)
    show _ = (T.foldl (fun l x => tIns x l) (tIns y l)).filter f
    rw [← ih, tIns_filter h]
    cases hy : f y with
    | true =>
      rw [List.filter_cons_of_pos hy, if_pos rfl]
      rfl
    | false => rw [List.filter_cons_of_neg (by rw [hy]; decide), if_neg (by decide)]
theorem tSo_filter (T : List (Int32 × Int32 × Int32)) : tSo (T.filter f) = (tSo T).filter f := fold_filter T [] List.Pairwise.nil
theorem tIns_len : ∀ (l : List (Int32 × Int32 × Int32)), (tIns x l).length = l.length + 1
  | [] => rfl
  | y :: l => by
    unfold tIns
    split
    · rfl
    · show (tIns x l).length + 1 = _
      rw [tIns_len l]; rfl
theorem tSo_len (T : List (Int32 × Int32 × Int32)) : (tSo T).length = T.length := by
  have : ∀ (T l : List (Int32 × Int32 × Int32)), (T.foldl (fun l x => tIns x l) l).length = T.length + l.length := by
    intro T
    induction T with
    | nil => intro l; simp
    | cons y T ih =>
      intro l
      show (T.foldl (fun l x => tIns x l) (tIns y l)).length = _
      rw [ih, tIns_len, List.length_cons]
      omega
  rw [tSo, this]
  rfl
theorem tIns_split : ∀ {A B : List (Int32 × Int32 × Int32)}, (∀ y ∈ A, ¬ x.2.1 < y.2.1) → (∀ b, B.head? = some b → x.2.1 < b.2.1) → tIns x (A ++ B) = A ++ x :: B
  | [], B, _, h => by
    cases B with
    | nil => rfl
    | cons b l =>
      show (if x.2.1 < b.2.1 then x :: b :: l else b :: tIns x l) = _
      rw [if_pos (h b rfl)]
      rfl
  | a :: A, B, h, k => by
    show (if x.2.1 < a.2.1 then x :: a :: (A ++ B) else a :: tIns x (A ++ B)) = _
    rw [if_neg (h a List.mem_cons_self), tIns_split (fun y hy => h y (List.mem_cons_of_mem _ hy)) k]
    rfl
theorem fold_above {z : Int32 × Int32 × Int32} : ∀ (T l : List (Int32 × Int32 × Int32)), (∀ y ∈ T, ¬ y.2.1 < z.2.1) → T.foldl (fun l x => tIns x l) (z :: l) = z :: T.foldl (fun l x => tIns x l) l
  | [], _, _ => rfl
  | y :: T, l, h => by
    show T.foldl (fun l x => tIns x l) (tIns y (z :: l)) = z :: T.foldl (fun l x => tIns x l) (tIns y l)
    have e : tIns y (z :: l) = z :: tIns y l := by
      show (if y.2.1 < z.2.1 then y :: z :: l else z :: tIns y l) = _
      rw [if_neg (h y List.mem_cons_self)]
    rw [e]
    exact fold_above T _ (fun y hy => h y (List.mem_cons_of_mem _ hy))
theorem fold_mem {z : Int32 × Int32 × Int32} : ∀ (T l : List (Int32 × Int32 × Int32)), z ∈ T.foldl (fun l x => tIns x l) l → z ∈ T ∨ z ∈ l
  | [], _, h => Or.inr h
  | y :: T, l, h => by
    rcases fold_mem T (tIns y l) h with e | e
    · exact Or.inl (List.mem_cons_of_mem _ e)
    · rcases tIns_mem e with e | e
      · exact Or.inl (by rw [e]; exact List.mem_cons_self)
      · exact Or.inr e
theorem tSo_mem {z : Int32 × Int32 × Int32} {T : List (Int32 × Int32 × Int32)} (h : z ∈ tSo T) : z ∈ T := by
  rcases fold_mem T [] h with e | e
  · exact e
  · cases e
/-- the first of them -/
theorem tSo_min {T : List (Int32 × Int32 × Int32)} (h : T ≠ []) : ∃ z, T[aMin T]? = some z ∧ tSo T = z :: tSo (T.eraseIdx (aMin T)) := by
  obtain ⟨A, z, B, e1, e2, e3, e4⟩ := aMin_spec T h
  have hz : T[aMin T]? = some z := by rw [e2]; conv => lhs; rw [e1]
                                      rw [List.getElem?_append_right (Nat.le_refl _), Nat.sub_self]; rfl
  have he : T.eraseIdx (aMin T) = A ++ B := by
    rw [e2]
    conv => lhs; rw [e1]
    rw [List.eraseIdx_append_of_length_le (Nat.le_refl _), Nat.sub_self]
    rfl
  refine ⟨z, hz, ?_⟩
  rw [he, e1]
  unfold tSo
  rw [List.foldl_append, List.foldl_append]
  show B.foldl (fun l x => tIns x l) (tIns z (A.foldl (fun l x => tIns x l) [])) = _
  rw [tIns_all (fun y hy => by
    rcases fold_mem A [] hy with e | e
    · exact e3 y e
    · cases e), fold_above B _ e4]
end TSO
