/-! SOUNDNESS, 1: what the abstract heap says of the JVM's, what stays true all through a run, what a method's frame knows -/
abbrev sd_D : Type := va_G × (FieldType → ClassId)
def sd_cell (D : sd_D) (a : Nat) (c : AC) (H : Heap) : Prop := match c with
  | .inl x => x.1 ∈ sd_atys ∧ (∀ i : Nat, i < x.2.1 → fits x.1 (x.2.2 i) = true) ∧ H[a]? = some (arrV (D.2 x.1) x.2.1 x.2.2)
  | .inr o => ∃ r : vw_C, sd_cl[o.1]? = some r ∧ r.2.2 = o.2.length ∧ t_OB a (D.1.1 o.1) r.2.2 (D.1.2 o.1) H (vp_V o.2)
theorem sd_cell.kept {D : sd_D} {a : Nat} {c : AC} {H H1 : Heap} (h : sd_cell D a c H) (hq : H1[a]? = H[a]?) : sd_cell D a c H1 := by
  cases c with
  | inl x => exact ⟨h.1, h.2.1, hq.trans h.2.2⟩
  | inr o =>
    obtain ⟨r, h1, h2, h3⟩ := h
    exact ⟨r, h1, h2, h3.kept hq⟩
theorem sd_cell.lt {D : sd_D} {a : Nat} {c : AC} {H : Heap} (h : sd_cell D a c H) : a < H.size := by
  cases c with
  | inl x => exact (Array.getElem?_eq_some_iff.mp h.2.2).1
  | inr o =>
    obtain ⟨r, h1, h2, cell, h3, -⟩ := h
    exact (Array.getElem?_eq_some_iff.mp h3).1
/-- the abstract heap holds of H; below B all is as at the law's start -/
def sd_H (D : sd_D) (B : Nat) (H0 : Heap) (σ : AH) (H : Heap) : Prop := H.size = σ.2.1 ∧ B ≤ H.size ∧ (∀ q : Nat, q < B → H[q]? = H0[q]?) ∧ ∀ (a : Nat) (b : Bool) (c : AC), σ.1 a = some (b, c) → sd_cell D a c H ∧ (b = true → B ≤ a)
theorem sd_H.set {D : sd_D} {B : Nat} {H0 : Heap} {σ : AH} {H H1 : Heap} {a : Nat} {c0 c : AC} (h : sd_H D B H0 σ H) (ha : σ.1 a = some (true, c0)) (h1 : sd_cell D a c H1) (h2 : H1.size = H.size) (h3 : ∀ q : Nat, q ≠ a → H1[q]? = H[q]?) : sd_H D B H0 (ah_set σ a c) H1 := by
  obtain ⟨e1, e2, e3, e4⟩ := h
  have hB : B ≤ a := (e4 a true c0 ha).2 rfl
  refine ⟨h2.trans e1, by rw [h2]; exact e2, fun q hq => ?_, fun q b x hx => ?_⟩
  · rw [h3 q (by omega)]; exact e3 q hq
  · by_cases hq : q = a
    · subst hq
      simp only [ah_set, if_pos] at hx
      cases hx
      exact ⟨h1, fun _ => hB⟩
    · simp only [ah_set, if_neg hq] at hx
      obtain ⟨g1, g2⟩ := e4 q b x hx
      exact ⟨g1.kept (h3 q hq), g2⟩
theorem sd_H.new {D : sd_D} {B n : Nat} {H0 : Heap} {σ : AH} {H H1 : Heap} {c : AC} (h : sd_H D B H0 σ H) (h1 : sd_cell D H.size c H1) (h2 : H1.size = H.size + 1) (h3 : ∀ q : Nat, q < H.size → H1[q]? = H[q]?) : sd_H D B H0 (ah_new σ c n) H1 := by
  obtain ⟨e1, e2, e3, e4⟩ := h
  refine ⟨by rw [h2, e1]; rfl, by omega, fun q hq => ?_, fun q b x hx => ?_⟩
  · rw [h3 q (by omega)]; exact e3 q hq
  · by_cases hq : q = σ.2.1
    · subst hq
      simp only [ah_new, if_pos] at hx
      cases hx
      rw [← e1]
      exact ⟨h1, fun _ => e2⟩
    · simp only [ah_new, if_neg hq] at hx
      obtain ⟨g1, g2⟩ := e4 q b x hx
      exact ⟨g1.kept (h3 q g1.lt), g2⟩
/-- the locals: what the list names is held -/
def sd_L (Wd : List Nat) (n : Nat) (L : List (Option Value)) (ls : Array Slot) : Prop := L.length = n ∧ ls.size = n ∧ lv_wf ls ∧ (∀ (i : Nat) (v : Value), L[i]? = some (some v) → ls[i]? = some (.val v)) ∧ ∀ (i : Nat) (v : Value), L[i]? = some (some v) → v.category = 2 → Wd.contains i = true
def sd_as (L : List (Option Value)) : List (Nat × Value) := (List.range L.length).filterMap fun i => match L[i]? with
  | some (some v) => some (i, v)
  | _ => none
theorem sd_as_mem {L : List (Option Value)} {q : Nat × Value} : q ∈ sd_as L ↔ L[q.1]? = some (some q.2) := by
  unfold sd_as
  rw [List.mem_filterMap]
  constructor
  · rintro ⟨i, -, h⟩
    split at h
    · rename_i v e
      cases h
      exact e
    · cases h
  · intro h
    refine ⟨q.1, List.mem_range.mpr (List.getElem?_eq_some_iff.mp h).1, ?_⟩
    rw [h]
theorem sd_L.has {Wd : List Nat} {n : Nat} {L : List (Option Value)} {ls : Array Slot} (h : sd_L Wd n L ls) : lv_has ls n (sd_as L) := ⟨h.2.1, h.2.2.1, fun q hq => h.2.2.2.1 q.1 q.2 (sd_as_mem.mp hq)⟩
theorem sd_L.at {Wd : List Nat} {n : Nat} {L : List (Option Value)} {ls : Array Slot} (h : sd_L Wd n L ls) {i : Nat} {v : Value} (hi : L[i]? = some (some v)) : ls[i]? = some (.val v) := h.2.2.2.1 i v hi
theorem sd_L.st1 {Wd : List Nat} {n i : Nat} {L : List (Option Value)} {ls ls' : Array Slot} {v : Value} (h : sd_L Wd n L ls) (hc : v.category = 1) (h' : lv_has ls' n ((i, v) :: (sd_as L).filter (fun q => !(q.1 == i) && !(q.1 + 1 == i && q.2.category == 2)))) : sd_L Wd n (ip_st1 Wd L i v) ls' := by
  obtain ⟨e1, e2, e3, e4, e5⟩ := h
  obtain ⟨f1, f2, f3⟩ := h'
  have key : ∀ (j : Nat) (w : Value), (ip_st1 Wd L i v)[j]? = some (some w) → (j = i ∧ w = v) ∨ (j ≠ i ∧ L[j]? = some (some w) ∧ (j + 1 = i → w.category ≠ 2)) := by
    intro j w hj
    unfold ip_st1 at hj
    split at hj
    · rename_i hcond
      rw [List.getElem?_set] at hj
      by_cases h1 : i - 1 = j
      · rw [if_pos h1] at hj
        split at hj <;> simp at hj
      · rw [if_neg h1, List.getElem?_set] at hj
        by_cases h2 : i = j
        · rw [if_pos h2] at hj
          split at hj
          · simp only [Option.some.injEq] at hj
            exact Or.inl ⟨h2.symm, hj.symm⟩
          · cases hj
        · rw [if_neg h2] at hj
          exact Or.inr ⟨fun e => h2 e.symm, hj, fun e => absurd (by omega) h1⟩
    · rename_i hcond
      rw [List.getElem?_set] at hj
      by_cases h2 : i = j
      · rw [if_pos h2] at hj
        split at hj
        · simp only [Option.some.injEq] at hj
          exact Or.inl ⟨h2.symm, hj.symm⟩
        · cases hj
      · rw [if_neg h2] at hj
        refine Or.inr ⟨fun e => h2 e.symm, hj, fun e hw => hcond ⟨by omega, ?_⟩⟩
        have h5 := e5 j w hj hw
        rw [show i - 1 = j by omega]
        exact h5
  refine ⟨?_, f1, f2, fun j w hj => ?_, fun j w hj hw => ?_⟩
  · unfold ip_st1
    split <;> simp [e1]
  · rcases key j w hj with ⟨rfl, rfl⟩ | ⟨hne, hL, hcat⟩
    · exact f3 (j, w) List.mem_cons_self
    · refine f3 (j, w) (List.mem_cons_of_mem _ (List.mem_filter.mpr ⟨sd_as_mem.mpr hL, ?_⟩))
      simp only [Bool.and_eq_true, Bool.not_eq_true', beq_eq_false_iff_ne, Bool.and_eq_false_iff, ne_eq]
      refine ⟨hne, ?_⟩
      by_cases hj1 : j + 1 = i
      · exact Or.inr (hcat hj1)
      · exact Or.inl hj1
  · rcases key j w hj with ⟨rfl, rfl⟩ | ⟨hne, hL, hcat⟩
    · omega
    · exact e5 j w hL hw
theorem sd_L.st2 {Wd : List Nat} {n i : Nat} {L : List (Option Value)} {ls ls' : Array Slot} {v : Value} (h : sd_L Wd n L ls) (hW : Wd.contains i = true) (h' : lv_has ls' n ((i, v) :: (sd_as L).filter (fun q => !(q.1 == i) && (!(q.1 == i + 1) && !(q.1 + 1 == i && q.2.category == 2))))) : sd_L Wd n (ip_st2 Wd L i v) ls' := by
  obtain ⟨e1, e2, e3, e4, e5⟩ := h
  obtain ⟨f1, f2, f3⟩ := h'
  have base : ∀ (j : Nat) (w : Value), ((L.set i (some v)).set (i + 1) none)[j]? = some (some w) → (j = i ∧ w = v) ∨ (j ≠ i ∧ j ≠ i + 1 ∧ L[j]? = some (some w)) := by
    intro j w hj
    rw [List.getElem?_set] at hj
    by_cases h1 : i + 1 = j
    · rw [if_pos h1] at hj
      split at hj <;> simp at hj
    · rw [if_neg h1, List.getElem?_set] at hj
      by_cases h2 : i = j
      · rw [if_pos h2] at hj
        split at hj
        · simp only [Option.some.injEq] at hj
          exact Or.inl ⟨h2.symm, hj.symm⟩
        · cases hj
      · rw [if_neg h2] at hj
        exact Or.inr ⟨fun e => h2 e.symm, fun e => h1 e.symm, hj⟩
  have key : ∀ (j : Nat) (w : Value), (ip_st2 Wd L i v)[j]? = some (some w) → (j = i ∧ w = v) ∨ (j ≠ i ∧ j ≠ i + 1 ∧ L[j]? = some (some w) ∧ (j + 1 = i → w.category ≠ 2)) := by
    intro j w hj
    unfold ip_st2 at hj
    split at hj
    · rename_i hcond
      rw [List.getElem?_set] at hj
      by_cases h1 : i - 1 = j
      · rw [if_pos h1] at hj
        split at hj <;> simp at hj
      · rw [if_neg h1] at hj
        rcases base j w hj with h | ⟨h2, h3, h4⟩
        · exact Or.inl h
        · exact Or.inr ⟨h2, h3, h4, fun e => absurd (by omega) h1⟩
    · rename_i hcond
      rcases base j w hj with h | ⟨h2, h3, h4⟩
      · exact Or.inl h
      · refine Or.inr ⟨h2, h3, h4, fun e hw => hcond ⟨by omega, ?_⟩⟩
        have h5 := e5 j w h4 hw
        rw [show i - 1 = j by omega]
        exact h5
  refine ⟨?_, f1, f2, fun j w hj => ?_, fun j w hj hw => ?_⟩
  · unfold ip_st2
    split <;> simp [e1]
  · rcases key j w hj with ⟨rfl, rfl⟩ | ⟨hne, hne2, hL, hcat⟩
    · exact f3 (j, w) List.mem_cons_self
    · refine f3 (j, w) (List.mem_cons_of_mem _ (List.mem_filter.mpr ⟨sd_as_mem.mpr hL, ?_⟩))
      simp only [Bool.and_eq_true, Bool.not_eq_true', beq_eq_false_iff_ne, Bool.and_eq_false_iff, ne_eq]
      refine ⟨hne, hne2, ?_⟩
      by_cases hj1 : j + 1 = i
      · exact Or.inr (hcat hj1)
      · exact Or.inl hj1
  · rcases key j w hj with ⟨rfl, rfl⟩ | ⟨hne, hne2, hL, hcat⟩
    · exact hW
    · exact e5 j w hL hw
/-- a method's first locals -/
theorem sd_args_at : ∀ (vs : List Value) (i j : Nat) (v : Value), (ip_args vs)[j]? = some (some v) → (i + j, v) ∈ lv_args i vs := by
  intro vs
  induction vs with
  | nil => intro i j v h; simp [ip_args] at h
  | cons a l ih =>
    intro i j v h
    unfold ip_args at h
    unfold lv_args
    split at h
    · rename_i hc
      rw [if_pos hc]
      match j with
      | 0 => simp at h; rw [h]; exact List.mem_cons_self
      | 1 => simp at h
      | j + 2 =>
        simp at h
        have := ih (i + 2) j v h
        rw [show i + 2 + j = i + (j + 2) by omega] at this
        exact List.mem_cons_of_mem _ this
    · rename_i hc
      rw [if_neg hc]
      match j with
      | 0 => simp at h; rw [h]; exact List.mem_cons_self
      | j + 1 =>
        simp at h
        have := ih (i + 1) j v h
        rw [show i + 1 + j = i + (j + 1) by omega] at this
        exact List.mem_cons_of_mem _ this
theorem sd_args_len : ∀ vs : List Value, (ip_args vs).length = (lg_sl vs).length := by
  intro vs
  induction vs with
  | nil => rfl
  | cons a l ih =>
    unfold ip_args
    have e : lg_sl (a :: l) = (if a.category = 2 then [.val a, .second] else [.val a]) ++ lg_sl l := rfl
    rw [e]
    split <;> simp [ih]
theorem sd_L.entry {Wd : List Nat} {n : Nat} {As : List Value} (h : (ip_args As).length ≤ n) (hw : ∀ (i : Nat) (v : Value), (ip_en n As)[i]? = some (some v) → v.category = 2 → Wd.contains i = true) : sd_L Wd n (ip_en n As) ((lg_sl As ++ List.replicate (n - (lg_sl As).length) Slot.unset).toArray) := by
  obtain ⟨h1, h2, h3⟩ := lv_entry As (n := n) (by rw [← sd_args_len]; exact h)
  refine ⟨by unfold ip_en; simp; omega, h1, h2, fun i v hv => h3 (i, v) ?_, hw⟩
  unfold ip_en at hv
  rw [List.getElem?_append] at hv
  split at hv
  · have := sd_args_at As 0 i v hv
    rwa [Nat.zero_add] at this
  · rw [List.getElem?_replicate] at hv
    split at hv <;> simp at hv
