/-! SOUNDNESS, 8: throws, catches, callees, the whole -/
section S8
variable {G : Nat → Value} {D : sd_D} {H0 : Heap} {p : Program} {l : Launch} {e : Env} {R : Room} {s : State} {m : MethodId} {args : Array Value} {below : List Frame} {meth : Method} {c : Code} {t : Nat}
variable {u0 : Nat} {Q : State → Prop} {σ σ' : AH} {pc pc' : Nat} {L L' : List (Option Value)} {st st' : List Value} {i : Instr} {aux : List (Nat × Nat)}
/-- an object of class k is thrown here -/
def sd_TW (D : sd_D) (H0 : Heap) (p : Program) (l : Launch) (e : Env) (R : Room) (s : State) (m : MethodId) (args : Array Value) (below : List Frame) (meth : Method) (c : Code) (t u0 : Nat) (Q : State → Prop) (σ : AH) (k pc : Nat) (L : List (Option Value)) (st : List Value) : Prop :=
  ∀ (H : Heap) (locs : List Loc) (ls : Array Slot) (q : Nat) (ce : Cell) (r : vw_C), sd_H D H0.size H0 σ H → (∀ q ∈ locs, H0.size ≤ q.base) → sd_L (tb_wide t) (tb_maxl t) L ls → (k = 18 ∨ k = 19 ∨ k = 20) → sd_cl[k]? = some r → H[q]? = some ce → ce.vm = .none → s.vm.findClass r.1 = some ce.cls →
    vx_W p l e R s m args below meth c H locs (σ.2.1 - s.heap.size) (σ.2.2 - u0) Q (F0 m pc ls st) q
theorem sd_CX.tbl (C : sd_CX G D H0 p l R s m args meth c t) : c.exceptionTable.toList = tableOf (mt_h t) := C.2.2.2.2.2.2.2.2.1
theorem so_athrow (C : sd_CX G D H0 p l R s m args meth c t) {a k : Nat} (d : sd_at t pc .athrow 1) (hcl : ah_cls σ a = some k) (hx : k = 18 ∨ k = 19 ∨ k = 20) (kk : sd_TW D H0 p l e R s m args below meth c t u0 Q σ k pc L st) : sd_W D H0 p l e R s m args below meth c t u0 Q σ pc L (.ref a :: st) := by
  intro H locs ls hH hl hL
  obtain ⟨cell, r, r1, q1, q2, q3, hat⟩ := sd_obj C hH (by rcases hx with rfl | rfl | rfl <;> omega) hcl
  exact vx_athrow C.1 C.2.1 d (kk H locs ls a cell r hH hl hL hx r1 q1 q2 (by rw [q3]; exact hat.1))
theorem hnd_some {k h : Nat} (hh : ip_hnd t pc k = some h) : ∃ (pre : List (Nat × Nat × Nat × List Nat)) (x : Nat × Nat × Nat × List Nat) (suf : List (Nat × Nat × Nat × List Nat)), tb_hnd t = pre ++ x :: suf ∧ (x.1 ≤ pc ∧ pc < x.2.1 ∧ x.2.2.2.contains k = true) ∧ x.2.2.1 = h ∧ ∀ z ∈ pre, ¬ (z.1 ≤ pc ∧ pc < z.2.1 ∧ z.2.2.2.contains k = true) := by
  unfold ip_hnd at hh
  obtain ⟨pre, x, suf, h1, h2, h3⟩ := List.findSome?_eq_some_iff.mp hh
  split at h2
  · rename_i h4
    refine ⟨pre, x, suf, h1, h4, Option.some.inj h2, fun z hz h5 => ?_⟩
    have h6 := h3 z hz
    rw [if_pos h5] at h6
    cases h6
  · cases h2
theorem hnd_none {k : Nat} (hh : ip_hnd t pc k = none) : ∀ z ∈ tb_hnd t, ¬ (z.1 ≤ pc ∧ pc < z.2.1 ∧ z.2.2.2.contains k = true) := by
  unfold ip_hnd at hh
  intro z hz h5
  have h6 := List.findSome?_eq_none_iff.mp hh z hz
  rw [if_pos h5] at h6
  cases h6
/-- a row that doesn't take it -/
theorem so_pass (C : sd_CX G D H0 p l R s m args meth c t) {k : Nat} {r : vw_C} (hx : k = 18 ∨ k = 19 ∨ k = 20) (hr : sd_cl[k]? = some r) {q : Nat × Nat × Nat × Nat × Nat × String}
    (hq : q.2.2.2.1 ≠ 0 ∧ Cond.classLink (mt_y t).cls q.2.2.2.1 q.2.2.2.2.2 ∈ lw_all ∧ vd_Cn q.2.2.2.2.1 q.2.2.2.2.2 ∧ Cond.castable q.2.2.2.2.2 q.2.2.2.2.2 ∈ lw_tbl ∧ (∀ (k : Nat) (E : String), (k = 18 ∨ k = 19 ∨ k = 20) → k ≠ q.2.2.2.2.1 → vd_Cn k E → (E, q.2.2.2.2.2) ∈ sd_nc))
    (hn : ¬ (q.1 ≤ pc ∧ pc < q.2.1 ∧ [q.2.2.2.2.1].contains k = true)) :
    covers (⟨q.1, q.2.1, q.2.2.1, q.2.2.2.1⟩ : ExceptionTableEntry) pc = false ∨ ((⟨q.1, q.2.1, q.2.2.1, q.2.2.2.1⟩ : ExceptionTableEntry).catchType ≠ 0 ∧ ∃ nm : String, (Cond.classLink (mt_y t).cls (⟨q.1, q.2.1, q.2.2.1, q.2.2.2.1⟩ : ExceptionTableEntry).catchType nm).before args s = true ∧ va_Nc r.1 nm s) := by
  by_cases hk : k = q.2.2.2.2.1
  · left
    have h2 : ¬ (q.1 ≤ pc ∧ pc < q.2.1) := fun h => hn ⟨h.1, h.2, by simp [hk]⟩
    show (decide (q.1 ≤ pc) && decide (pc < q.2.1)) = false
    by_cases h3 : q.1 ≤ pc
    · have h4 : ¬ pc < q.2.1 := fun h => h2 ⟨h3, h⟩
      simp [h4]
    · simp [h3]
  · right
    refine ⟨hq.1, q.2.2.2.2.2, C.hts _ hq.2.1, C.K.2.2.2.2.1 _ (hq.2.2.2.2 k r.1 hx hk ⟨r.2.1, r.2.2, hr⟩)⟩
theorem so_catch (C : sd_CX G D H0 p l R s m args meth c t) (VH : vd_H t) {k h : Nat} (hh : ip_hnd t pc k = some h) (kk : ∀ q : Nat, sd_W D H0 p l e R s m args below meth c t u0 Q σ h L [.ref q]) : sd_TW D H0 p l e R s m args below meth c t u0 Q σ k pc L st := by
  intro H locs ls q ce r hH hl hL hx hr hce hcv hcl
  obtain ⟨hs, e1, e2, e3⟩ := VH
  obtain ⟨pre, x, suf, g1, g2, g3, g4⟩ := hnd_some hh
  rw [e1] at g1
  obtain ⟨pre', rest', f1, f2, f3⟩ := List.map_eq_append_iff.mp g1
  obtain ⟨x', suf', f4, f5, f6⟩ := List.map_eq_cons_iff.mp f3
  subst f1
  subst f4
  subst f2
  subst f5
  dsimp only at g2 g3 g4
  have hx' := e3 x' (by simp)
  have hkx : k = x'.2.2.2.2.1 := by
    have := g2.2.2
    simpa using this
  obtain ⟨T1, N1, hcn⟩ := hx'.2.2.1
  rw [← hkx] at hcn
  cases hr.symm.trans hcn
  have htab : c.exceptionTable.toList = pre'.map (fun q => (⟨q.1, q.2.1, q.2.2.1, q.2.2.2.1⟩ : ExceptionTableEntry)) ++ (⟨x'.1, x'.2.1, x'.2.2.1, x'.2.2.2.1⟩ : ExceptionTableEntry) :: suf'.map (fun q => (⟨q.1, q.2.1, q.2.2.1, q.2.2.2.1⟩ : ExceptionTableEntry)) := by
    rw [C.tbl, e2]
    simp [tableOf, Function.comp_def]
  refine vx_catch C.own _ _ _ htab (fun z hz => ?_) ?_ hx'.1 (C.hts _ hx'.2.1) (va_Nw.use rfl (C.rd hx'.2.2.2.1 rfl)) hce hcv hcl ?_
  · obtain ⟨q', hq', rfl⟩ := List.mem_map.mp hz
    exact so_pass C hx hr (e3 q' (by simp [hq'])) (g4 _ (List.mem_map.mpr ⟨q', hq', rfl⟩))
  · show (decide (x'.1 ≤ pc) && decide (pc < x'.2.1)) = true
    simp [g2.1, g2.2.1]
  · have := kk q H locs ls hH hl hL
    rw [← g3] at this
    exact this
theorem sd_L.clr {Wd : List Nat} {n j : Nat} {L : List (Option Value)} {ls : Array Slot} (h : sd_L Wd n L ls) : sd_L Wd n (L.set j none) ls := by
  obtain ⟨e1, e2, e3, e4, e5⟩ := h
  have key : ∀ (i : Nat) (v : Value), (L.set j none)[i]? = some (some v) → L[i]? = some (some v) := by
    intro i v hv
    rw [List.getElem?_set] at hv
    split at hv
    · split at hv <;> simp at hv
    · exact hv
  exact ⟨by simp [e1], e2, e3, fun i v hv => e4 i v (key i v hv), fun i v hv => e5 i v (key i v hv)⟩
theorem sd_W.clr {j : Nat} (h : sd_W D H0 p l e R s m args below meth c t u0 Q σ pc (L.set j none) st) : sd_W D H0 p l e R s m args below meth c t u0 Q σ pc L st := fun H locs ls hH hl hL => h H locs ls hH hl hL.clr
/-- the handler's first instruction stores what was caught -/
theorem so_caught (C : sd_CX G D H0 p l R s m args meth c t) (VA : ∀ pc i aux, tb_code t pc = some (i, aux) → vd (mt_c t) (mt_y t).cls (mt_y t).name (tb_ret t) pc i aux) {h pc2 : Nat} {L2 : List (Option Value)} (hc : ip_ca t h L = some (pc2, L2)) (q : Nat) (kk : sd_W D H0 p l e R s m args below meth c t u0 Q σ pc2 L2 []) : sd_W D H0 p l e R s m args below meth c t u0 Q σ h L [.ref q] := by
  have hset : ∀ j : Nat, tb_wide t = [] → ip_st1 (tb_wide t) L j (.ref q) = L.set j (some (.ref q)) := by
    intro j hw
    unfold ip_st1
    rw [hw, if_neg (by rintro ⟨-, h⟩; simp at h)]
  unfold ip_ca at hc
  split at hc
  · rename_i j aux hcode
    split at hc
    · rename_i hj
      cases hc
      refine sp_astore C (VA h _ _ hcode).1 hj.1 ?_
      rw [hset j hj.2]
      refine sd_W.clr (j := j) ?_
      rw [List.set_set]
      exact kk
    · cases hc
  · rename_i j aux hcode
    split at hc
    · rename_i hj
      cases hc
      refine sp_astore_n C (VA h _ _ hcode).1 hj.1 ?_
      rw [hset j hj.2]
      refine sd_W.clr (j := (j : Nat)) ?_
      rw [List.set_set]
      exact kk
    · cases hc
  · cases hc
/-! the callee -/
def sd_Pc (G : Nat → Value) (D : sd_D) (H0 : Heap) (As : List Value) (σ : AH) : Array Value → State → Prop := fun a st => a = As.toArray ∧ sd_K G D H0 st ∧ sd_H D H0.size H0 σ st.heap
def sd_Qc (D : sd_D) (H0 : Heap) (r : ip_Out) (σ2 : AH) : Array Value → State → Outcome → State → Prop := fun _ _ o t9 => ∃ v, r = .inl v ∧ o = .returned v ∧ sd_H D H0.size H0 σ2 t9.heap
def sd_XC (D : sd_D) (H0 : Heap) (r : ip_Out) (σ2 : AH) : String → State → State → Prop := fun E _ t9 => ∃ (k : Nat) (rr : vw_C), r = .inr k ∧ (k = 18 ∨ k = 19 ∨ k = 20) ∧ sd_cl[k]? = some rr ∧ rr.1 = E ∧ sd_H D H0.size H0 σ2 t9.heap
/-- behind a call's site -/
theorem so_call (C : sd_CX G D H0 p l R s m args meth c t) {t' len n d : Nat} {As : List Value} {P : Option (Nat → Prop)} {r : ip_Out} {σ2 : AH} (J : vd_J (mt_y t).cls (mt_c t) pc len n t' P) (hn : As.length = n) (hP : ∀ Q, P = some Q → ∃ (b : Nat) (Bs : List Value) (k : Nat), As = .ref b :: Bs ∧ Q k ∧ k < 1000 ∧ ah_cls σ b = some k) (hst : st.length ≤ 4)
    (hR : 20 + (d + 1) ≤ R.frames ∧ 400 + 60 * (d + 1) ≤ R.locals) (hs : s.heap.size ≤ σ.2.1) (hu : u0 ≤ σ.2.2) (hle : ah_le σ σ2) (hr1 : σ2.2.1 - s.heap.size ≤ R.cells) (hr2 : σ2.2.2 - u0 ≤ R.slots)
    (hM : vx_Met l (mt_y t') (mt_ws t') { frames := 20 + d, locals := 400 + 60 * d, cells := σ2.2.1 - σ.2.1, slots := σ2.2.2 - σ.2.2 } (sd_Pc G D H0 As σ) (sd_Qc D H0 r σ2) (sd_XC D H0 r σ2) (σ2.2.1 - σ.2.1) (σ2.2.2 - σ.2.2) (fun q => H0.size ≤ q))
    (kret : ∀ v, r = .inl v → sd_W D H0 p l e R s m args below meth c t u0 Q σ2 (pc + len) L (v.toList ++ st))
    (kthr : ∀ k, r = .inr k → sd_TW D H0 p l e R s m args below meth c t u0 Q σ2 k pc L st) : sd_W D H0 p l e R s m args below meth c t u0 Q σ pc L (As.reverse ++ st) := by
  intro H locs ls hH hl hL T hT X
  obtain ⟨⟨hK, hHd, hml⟩, hnm, hmj, hI⟩ := J
  obtain ⟨le1, le2⟩ := hle
  have hcs := cat_sum st
  have hrun := hI G D H0 p l e R s m args below meth c (tb_maxl t) H locs (σ.2.1 - s.heap.size) (σ.2.2 - u0) (σ2.2.1 - σ.2.1) (σ2.2.2 - σ.2.2) _ _ _ _ _ As st ls ⟨C.1, C.2.1, C.ml, C.own, C.hts⟩ C.K hM ⟨rfl, rfl⟩ ⟨by show 20 + d + 1 ≤ _; omega, by show 8 + (tb_maxl t' + 11) + (400 + 60 * d) ≤ _; omega⟩
    ⟨fun a U g mk h => ⟨h.1, h.2.1.moved (State.WarmedH.refl U), h.2.2⟩, fun U hU hW => ⟨rfl, C.K.moved hW, by rw [hU]; exact hH⟩⟩ hn (fun Q hQ => by
      obtain ⟨b, Bs, k, h1, h2, h3, h4⟩ := hP Q hQ
      obtain ⟨cell, r', r1, q1, q2, q3, hat⟩ := sd_obj C hH h3 h4
      exact ⟨b, Bs, k, r', cell, h1, h2, r1, q1, by rw [q2]; rfl, by rw [q3]; exact hat.1⟩) hL.2.1 (by omega) ⟨by omega, by omega⟩
  have e1 : σ.2.1 - s.heap.size + (σ2.2.1 - σ.2.1) = σ2.2.1 - s.heap.size := by omega
  have e2 : σ.2.2 - u0 + (σ2.2.2 - σ.2.2) = σ2.2.2 - u0 := by omega
  have hlocs : ∀ L' : List Loc, (∀ q ∈ L', H0.size ≤ q.base) → ∀ q ∈ locs ++ L', H0.size ≤ q.base := fun L' h q hq => by
    rcases List.mem_append.mp hq with h1 | h1
    · exact hl q h1
    · exact h q h1
  rcases hrun T hT X with ⟨v, st₀, t9, T', L', h0, X', hf, g1, g2, ⟨v', hr, ho, hH2⟩, stp⟩ | ⟨q, st₀, t9, T', L', E, ce, h0, X', hf, g1, g2, ⟨k, rr, hr, hx, hrr, hE, hH2⟩, hce, hcv, hcl, stp⟩
  · cases ho
    rw [e1, e2] at X'
    obtain ⟨t8, a1, b1⟩ := kret _ hr T'.heap (locs ++ L') ls (by rw [g1]; exact hH2) (hlocs L' hf) hL T' rfl X'
    exact ⟨t8, stp t8 a1, b1⟩
  · subst hE
    rw [e1, e2] at X'
    obtain ⟨t8, a1, b1⟩ := kthr k hr T'.heap (locs ++ L') ls q ce rr (by rw [g1]; exact hH2) (hlocs L' hf) hL hx hrr (by rw [g1]; exact hce) hcv hcl T' rfl X'
    exact ⟨t8, stp.trans a1, b1⟩
end S8
/-- the first locals of a callee -/
theorem so_entry {t n : Nat} {As : List Value} (hok : ip_ok t As = true) (hn : As.length = n) (hml : n ≤ tb_maxl t) (hmj : t = tb_mj → n = 2) (hw : tb_wide tb_mj = [0, 2] ∧ tb_maxl tb_mj = 4) : sd_L (tb_wide t) (tb_maxl t) (ip_en (tb_maxl t) As) ((lg_sl As ++ List.replicate (tb_maxl t - (lg_sl As).length) Slot.unset).toArray) := by
  unfold ip_ok at hok
  rw [Bool.or_eq_true, Bool.and_eq_true, List.all_eq_true, List.all_eq_true] at hok
  rcases hok with h1 | ⟨h1, h2⟩
  · have h1 : ∀ v ∈ As, v.category = 1 := fun v hv => by simpa using h1 v hv
    have e := ip_en1 (n := tb_maxl t) h1
    have hargs : (ip_args As).length = As.length := by
      have : ∀ l : List Value, (∀ v ∈ l, v.category = 1) → (ip_args l).length = l.length := by
        intro l
        induction l with
        | nil => intro _; rfl
        | cons a l ih =>
          intro h
          unfold ip_args
          rw [if_neg (by rw [h a List.mem_cons_self]; decide)]
          simp [ih (fun v hv => h v (List.mem_cons_of_mem _ hv))]
      exact this As h1
    refine sd_L.entry (by omega) (fun i v hv hc => ?_)
    rw [e, List.getElem?_append] at hv
    split at hv
    · rw [List.getElem?_map] at hv
      obtain ⟨w, hw1, hw2⟩ := Option.map_eq_some_iff.mp hv
      cases hw2
      rw [h1 v (List.mem_of_getElem? hw1)] at hc
      cases hc
    · rw [List.getElem?_replicate] at hv
      split at hv <;> simp at hv
  · have ht : t = tb_mj := by simpa using h1
    subst ht
    have h2 : ∀ v ∈ As, v.category = 2 := fun v hv => by simpa using h2 v hv
    have hn2 := hmj rfl
    match As, hn with
    | [a, b], _ =>
      have ha := h2 a (by simp)
      have hb := h2 b (by simp)
      have hargs : ip_args [a, b] = [some a, none, some b, none] := by simp [ip_args, ha, hb]
      refine sd_L.entry (by rw [hargs, hw.2]; exact Nat.le_refl _) (fun i v hv hc => ?_)
      unfold ip_en at hv
      rw [hargs, hw.2] at hv
      rw [hw.1]
      match i, hv with
      | 0, _ => rfl
      | 1, hv => simp at hv
      | 2, _ => rfl
      | 3, hv => simp at hv
      | i + 4, hv => simp at hv
    | [], h => simp at h; omega
    | [_], h => simp at h; omega
    | _ :: _ :: _ :: _, h => simp at h; omega
