/-! SOUNDNESS, 4: exceptions made, the grid, natives -/
/-- 'new E; dup; invokespecial E.<init>' at pc -/
def vd_X (own : String) (cc : ByteArray) (pc idx k : Nat) : Prop := ∃ (cls : String) (T : u_T) (names : List String) (ic : Nat), sd_cl[k]? = some (cls, T, 0) ∧ Bundle.fit cls = true ∧ (∀ n ∈ names, Bundle.fit n = true) ∧ names.length ≤ 5 ∧ Cond.classLink own idx cls ∈ lw_all ∧ Cond.initialized cls ∈ lw_all ∧
  (∀ w ∈ vx_at0 own ic cls names, w ∈ lw_all ∨ (w ∈ lw_tbl ∧ sd_ride w = true)) ∧ (∀ w ∈ Cond.classLink own idx cls :: Cond.initialized cls :: vx_at0 own ic cls names, vx_ot w = true) ∧
  decode cc (pc + 3) = .ok (.dup, 1) ∧ decode cc (pc + 4) = .ok (.invokespecial ic, 3)
theorem cat_sum : ∀ rest : List Value, (rest.map fun v => v.category).sum ≤ 2 * rest.length := by
  intro rest
  induction rest with
  | nil => exact Nat.le_refl _
  | cons v r ih =>
    simp only [List.map_cons, List.sum_cons, List.length_cons]
    have : v.category ≤ 2 := by cases v <;> simp [Value.category]
    omega
theorem sd_grid5 (c : ClassId) (h : Nat) : Jvm.Free.Multi.outerC c 5 h 5 = arrV c 5 (fun i => .ref (h + 1 + i)) := by
  have e1 : Jvm.Free.Multi.outerC c 5 h 5 = arrV c 5 (updV (updV (updV (updV (updV (fun _ => .null) 0 (.ref (h + 1 + 0))) 1 (.ref (h + 1 + 1))) 2 (.ref (h + 1 + 2))) 3 (.ref (h + 1 + 3))) 4 (.ref (h + 1 + 4))) := by
    rw [← arrV_store, ← arrV_store, ← arrV_store, ← arrV_store, ← arrV_store, ← arrV_new]
    rfl
  rw [e1]
  have key : ∀ j : Nat, j < 5 → updV (updV (updV (updV (updV (fun _ => Value.null) 0 (.ref (h + 1 + 0))) 1 (.ref (h + 1 + 1))) 2 (.ref (h + 1 + 2))) 3 (.ref (h + 1 + 3))) 4 (.ref (h + 1 + 4)) j = .ref (h + 1 + j) := by
    intro j hj
    match j, hj with
    | 0, _ => rfl
    | 1, _ => rfl
    | 2, _ => rfl
    | 3, _ => rfl
    | 4, _ => rfl
  unfold arrV
  congr 2
  funext j
  exact key j.val j.isLt
section SD4
variable {G : Nat → Value} {D : sd_D} {H0 : Heap} {p : Program} {l : Launch} {e : Env} {R : Room} {s : State} {m : MethodId} {args : Array Value} {below : List Frame} {meth : Method} {c : Code} {t : Nat}
variable {u0 : Nat} {Q : State → Prop} {σ σ' : AH} {pc pc' : Nat} {L L' : List (Option Value)} {st st' : List Value} {i : Instr} {aux : List (Nat × Nat)}
theorem so_newX (C : sd_CX G D H0 p l R s m args meth c t) {idx k : Nat} (V : vd_X (mt_y t).cls (mt_c t) pc idx k) (d : sd_at t pc (.new idx) 3) (hst : st.length ≤ 4) (hs : s.heap.size ≤ σ.2.1) (hu : u0 ≤ σ.2.2) (hr1 : σ.2.1 + 1 - s.heap.size ≤ R.cells) (hr2 : σ.2.2 + 6 - u0 ≤ R.slots)
    (kk : sd_W D H0 p l e R s m args below meth c t u0 Q (ah_new σ (.inr (k, [])) 6) (pc + 7) L (.ref σ.2.1 :: st)) : sd_W D H0 p l e R s m args below meth c t u0 Q σ pc L st := by
  intro H locs ls hH hl hL
  obtain ⟨cls, T0, names, ic, h1, hcls, hnames, hnl, hk0, hini0, hat0, hgood, d3, d4⟩ := V
  have hexec := C.1
  have hb := C.2.1
  have hown := C.own
  have hk := C.hts _ hk0
  have hini := C.hts _ hini0
  have hat : ∀ w ∈ vx_at0 (mt_y t).cls ic cls names, w.before args s = true := fun w hw => by
    rcases hat0 w hw with h | ⟨h, hr⟩
    · exact C.hts _ h
    · have hz := C.rd h hr
      unfold sd_ride at hr
      split at hr
      · exact va_Nw.use rfl hz
      · exact va_Nw.use rfl hz
      · simp only [Bool.and_eq_true] at hr
        exact va_Nw.use hr.1 hz
  intro T hT X
  subst hT
  have htr : e.platform.stackTraces = false := (show e.platform.stackTraces = l.stackTraces by rw [X.admits.platform]).trans C.2.2.2.2.2.2.2.2.2.2.1
  have hsz : T.heap.size = σ.2.1 := hH.1
  have Y := vx_rebase X (R' := { frames := R.frames, locals := R.locals, cells := 1, slots := 6 }) (Nat.le_refl _) (Nat.le_refl _) (by show _ + 1 ≤ _; omega) (by show _ + 6 ≤ _; omega)
  obtain ⟨s', hA'⟩ : ∃ z, z = (T.setVm s.vm).setFrames (.invoking m args :: below) := ⟨_, rfl⟩
  rw [← hA'] at Y
  have hvm : s'.vm = s.vm := by rw [hA']; rfl
  have hhp : s'.heap = T.heap := by rw [hA']; rfl
  have hW0 : s.WarmedH s'.vm := by rw [hvm]; exact State.WarmedH.refl s
  have hat' : ∀ w ∈ vx_at0 (mt_y t).cls ic cls names, w.before args s' = true := fun w hw => vx_ot_at hW0 hvm.symm (hgood w (List.mem_cons_of_mem _ (List.mem_cons_of_mem _ hw))) (hat w hw)
  have hk' : (Cond.classLink (mt_y t).cls idx cls).before args s' = true := vx_ot_at hW0 hvm.symm (hgood _ List.mem_cons_self) hk
  have hini' : (Cond.initialized cls).before args s' = true := vx_ot_at hW0 hvm.symm (hgood _ (List.mem_cons_of_mem _ List.mem_cons_self)) hini
  have hold : ∀ a : Nat, a < H0.size → ¬ H0.size ≤ a → T.heap[a]? = H0[a]? := fun a h _ => hH.2.2.1 a h
  have hU' : vx_Zq Bundle.tN "UNASSIGNED_STACK" Bundle.steD (fun a => H0.size ≤ a) s' s'.heap := by rw [hhp]; exact vx_Zq.moved hW0.alike (C.K.2.2.2.2.2.2.2.2.2.1.kept hold)
  have hN' : vx_Zq Bundle.tN "SUPPRESSED_SENTINEL" Bundle.listD (fun a => H0.size ≤ a) s' s'.heap := by rw [hhp]; exact vx_Zq.moved hW0.alike (C.K.2.2.2.2.2.2.2.2.2.2.kept hold)
  have h : ∀ w ∈ Bundle.ownAtoms0 (mt_y t).cls ic cls names, w.before args s' = true := vx_own hat' (vx_isRefq hU'.1) (vx_isRefq hN'.1) hU'.2.word hN'.2.word
  have hown' : s'.vm.findClass (mt_y t).cls = some m.cls := by rw [hvm]; exact hown
  have hins : (Cond.instantiable cls 6).before args s' = true := h _ (by simp [Bundle.ownAtoms0])
  obtain ⟨vm₁, cX, kX, hfX, hkX, -, -, X₁, st1⟩ := Y.newCold hexec (own := (mt_y t).cls) (C := cls) (index := idx) (n := 6) hown' hk' hins hini'
    (g := F0 m pc ls st) rfl (by rw [hb]; exact d) (Nat.le_refl _) (Nat.le_refl _)
  generalize hT1 : (T.setVm vm₁).pushCell { cls := cX, slots := kX.instanceTypes.map defaultValue, vm := .none } = T1 at X₁ st1
  have hcat : (Value.ref T.heap.size).category = 1 := rfl
  have hcellA : T1.heap[T.heap.size]? = some (freshCell cX kX) := by rw [← hT1]; exact State.heap_pushCell_size _ _
  have d3' : decode c.code (pc + 3) = .ok (.dup, 1) := by rw [hb]; exact d3
  have hcs := cat_sum st
  have hfr := C.fr
  obtain ⟨V, ce, Lx, Z, hLx, hlt, hcl9, hvm9, st2⟩ := vx_ctorMade0 X₁ hexec htr (own := (mt_y t).cls) (cls := cls) (names := names) (ic := ic) hown' hcls hnames h (fun x hx => nomatch hx) hfX hkX hcellA (by rw [hhp]; exact Nat.le_refl _)
    (g := { method := m, pc := pc + 4, locals := ls, stack := .ref T.heap.size :: .ref T.heap.size :: st, locked := none }) rfl (by rw [C.ml]; exact hL.2.1) (rest := st) rfl
    (by rw [hb]; exact d4) (by show names.length + 3 < R.frames; omega) (by simp only [List.map_cons, List.sum_cons, hcat]; show _ ≤ R.locals; have : ({ method := m, pc := pc + 4, locals := ls, stack := .ref T.heap.size :: .ref T.heap.size :: st, locked := none } : JFrame).monitorRoom = 0 := rfl; omega)
  have Z0 := Stand.forget (locs := []) Z (fun y hy => by rw [hLx y hy, hhp]; exact Nat.le_refl _)
  obtain ⟨f1, f2⟩ := vx_frame Z0.same
  rw [hhp] at f1 f2
  have hcid : ce.cls = D.1.1 k := by
    rw [hcl9]
    have h2 := (C.K.1.1 k _ h1).2.1
    rw [hvm] at hfX
    exact Option.some.inj (hfX.symm.trans h2)
  have hh : (V.setCell T.heap.size ce).heap[T.heap.size]? = some ce := heapAt_setCell_self (s := V) ce hlt
  have hszV : (V.setCell T.heap.size ce).heap.size = T.heap.size + 1 := by
    have h5 := Z0.heapSize
    rw [hhp] at h5
    have h6 : T.heap.size < (V.setCell T.heap.size ce).heap.size := (Array.getElem?_eq_some_iff.mp hh).1
    omega
  subst hA'
  have X5 := vx_back9 X Y Z0
  have X6 : Stand p l e R s m args below meth c (V.setCell T.heap.size ce) locs (σ.2.1 - s.heap.size + 1) (σ.2.2 - u0 + 6) := { X5 with same := X5.same.mono (by omega) (by omega) }
  have k1 := kk (V.setCell T.heap.size ce).heap locs ls (hH.new (n := 6) (c := .inr (k, [])) ⟨_, h1, rfl, ce, hh, hcid, hvm9, fun k hk => absurd hk (Nat.not_lt_zero k)⟩ hszV (fun q hq => f2 q hq (fun z hz => nomatch hz))) hl hL
  have e3 : (ah_new σ (.inr (k, [])) 6).2.1 - s.heap.size = σ.2.1 - s.heap.size + 1 := by show σ.2.1 + 1 - s.heap.size = _; omega
  have e4 : (ah_new σ (.inr (k, [])) 6).2.2 - u0 = σ.2.2 - u0 + 6 := by show σ.2.2 + 6 - u0 = _; omega
  rw [e3, e4] at k1
  obtain ⟨t9, a1, b1⟩ := k1 _ rfl X6
  refine ⟨t9, st1 _ ?_, b1⟩
  show Steps p.tables e below (T1.setTop { method := m, pc := pc + 3, locals := ls, stack := .ref T.heap.size :: st, locked := none }) _
  jvm_step X₁.here [X₁.here.top, hexec, d3', Value.category]
  rw [← hsz] at a1
  exact st2 _ a1
/-- new int[5][5] -/
theorem so_grid (C : sd_CX G D H0 p l R s m args meth c t) {idx : Nat} (V : Cond.classLink (mt_y t).cls idx "[[I" ∈ lw_all) (hac : Cond.arrayClass .int ∈ lw_all) (hty : FieldType.array .int ∈ sd_atys ∧ FieldType.int ∈ sd_atys) (d : sd_at t pc (.multianewarray idx 2) 4) (hs : s.heap.size ≤ σ.2.1) (hu : u0 ≤ σ.2.2) (hr1 : σ.2.1 + 6 - s.heap.size ≤ R.cells) (hr2 : σ.2.2 + 30 - u0 ≤ R.slots)
    (kk : sd_W D H0 p l e R s m args below meth c t u0 Q (ah_grid σ) (pc + 4) L (.ref σ.2.1 :: st)) : sd_W D H0 p l e R s m args below meth c t u0 Q σ pc L (.int 5 :: .int 5 :: st) := by
  intro H locs ls hH hl hL T hT X
  subst hT
  have hsz : T.heap.size = σ.2.1 := hH.1
  obtain ⟨vm₁, cA, comp, hW, hfA, hfC, hO, hI, X', st1⟩ := X.multianewarray2F C.1 (own := (mt_y t).cls) (index := idx) (ty := .int) C.own (C.hts _ V) C.K.2.2.2.1.2.2.use (C.hts _ hac) (g := F0 m pc ls (.int 5 :: .int 5 :: st)) rfl (by rw [C.2.1]; exact d) (n := 5) (k := 5) (rest := st) rfl (by decide) (by decide) (by decide) (by decide) (by decide) (by decide) (by decide) (by show _ + (1 + 5) ≤ _; omega) (by show _ + (5 + 5 * 5) ≤ _; omega)
  have e5 : (5 : Int32).toNatClampNeg = 5 := by decide
  rw [e5] at X' st1
  obtain ⟨f1, f2, f3, f4⟩ := Jvm.Free.Multi.fill_facts (T.setVm vm₁) cA comp 5 5 (defaultValue .int) 5
  have fo : ∀ a : Nat, a < T.heap.size → (Jvm.Free.Multi.fill (T.setVm vm₁) cA comp 5 5 (defaultValue .int) 5).heap[a]? = T.heap[a]? := fun a ha => Jvm.Free.Multi.fill_old (T.setVm vm₁) cA comp 5 5 (defaultValue .int) (a := a) ha 5
  have fi := fun j => Jvm.Free.Multi.fill_inner (T.setVm vm₁) cA comp 5 5 (defaultValue .int) 5 j
  generalize hF : Jvm.Free.Multi.fill (T.setVm vm₁) cA comp 5 5 (defaultValue .int) 5 = F at X' st1 f1 f2 f3 f4 fo fi
  have hsz1 : (T.setVm vm₁).heap.size = T.heap.size := rfl
  rw [hsz1] at f1 f2 fi
  have hcA : cA = D.2 (.array .int) := by
    have h2 := (C.K.2.1 _ hty.1).2
    exact Option.some.inj (hfA.symm.trans h2)
  have hcI : comp = D.2 .int := by
    have h2 := (C.K.2.1 _ hty.2).2
    exact Option.some.inj (hfC.symm.trans h2)
  have hout : Jvm.Free.Multi.outerC cA 5 T.heap.size 5 = arrV (D.2 (.array .int)) 5 (fun i => .ref (σ.2.1 + 1 + i)) := by
    rw [hcA, hsz]
    exact sd_grid5 _ _
  have hinn : Jvm.Free.Multi.innerC comp 5 (defaultValue .int) = arrV (D.2 .int) 5 (fun _ => .int 0) := by
    rw [hcI]
    exact arrV_new (D.2 .int) 5 (.int 0)
  have hgrid : sd_H D H0.size H0 (ah_grid σ) F.heap := by
    obtain ⟨e1, e2, e3, e4⟩ := hH
    refine ⟨by rw [f1, e1]; rfl, by omega, fun q hq => ?_, fun q b x hx => ?_⟩
    · rw [fo q (by omega)]; exact e3 q hq
    · unfold ah_grid at hx
      dsimp only at hx
      split at hx
      · rename_i hq
        cases hx
        subst hq
        exact ⟨⟨hty.1, fun _ _ => rfl, by rw [← hsz, f2, hout, hsz]⟩, fun _ => by omega⟩
      · rename_i hq
        split at hx
        · rename_i hq2
          cases hx
          refine ⟨⟨hty.2, fun _ _ => rfl, ?_⟩, fun _ => by omega⟩
          have := fi (q - σ.2.1 - 1) (by omega)
          rw [show T.heap.size + 1 + (q - σ.2.1 - 1) = q by omega, hinn] at this
          exact this
        · obtain ⟨g1, g2⟩ := e4 q b x hx
          exact ⟨g1.kept (fo q g1.lt), g2⟩
  have k1 := kk F.heap locs ls hgrid hl hL
  have e3 : (ah_grid σ).2.1 - s.heap.size = σ.2.1 - s.heap.size + 1 + 5 := by show σ.2.1 + 6 - s.heap.size = _; omega
  have e4 : (ah_grid σ).2.2 - u0 = σ.2.2 - u0 + 5 + 5 * 5 := by show σ.2.2 + 30 - u0 = _; omega
  rw [e3, e4] at k1
  obtain ⟨t9, a1, b1⟩ := k1 F rfl X'
  refine ⟨t9, st1 _ ?_, b1⟩
  rw [hsz]
  exact a1
/-- System.arraycopy -/
def vd_Y (own : String) (idx : Nat) : Prop := Cond.methodLink own idx arraycopyName ∈ lw_all
theorem so_copy (C : sd_CX G D H0 p l R s m args meth c t) {idx : Nat} (V : vd_Y (mt_y t).cls idx) (hnat : Cond.native arraycopyName ∈ lw_all) (hstat : Cond.static arraycopyName ∈ lw_all) (hini : Cond.initialized "java/lang/System" ∈ lw_all) (helc : ∀ k : Nat, (k = 3 ∨ k = 4 ∨ k = 9) → vd_A k "java/lang/Object") {a0 a1 : Nat} {sp dp n : Int32} (d : sd_at t pc (.invokestatic idx) 3) (h1 : ¬ sp < 0) (h2 : ¬ dp < 0) (h3 : ¬ n < 0) (hst : st.length ≤ 4) (hf : ah_cpy σ a0 sp.toNatClampNeg a1 dp.toNatClampNeg n.toNatClampNeg = some σ')
    (kk : sd_W D H0 p l e R s m args below meth c t u0 Q σ' (pc + 3) L st) : sd_W D H0 p l e R s m args below meth c t u0 Q σ pc L (.int n :: .int dp :: .ref a1 :: .int sp :: .ref a0 :: st) := by
  intro H locs ls hH hl hL
  have nn : ∀ z : Int32, ¬ z < 0 → z.toInt = (z.toNatClampNeg : Int) := by
    intro z hz
    have hz0 : (0 : Int) ≤ z.toInt := by
      have := Int32.not_lt.mp hz
      simpa using Int32.le_iff_toInt_le.mp this
    show z.toInt = ((z.toInt.toNat : Nat) : Int)
    omega
  unfold ah_cpy at hf
  split at hf
  · rename_i b0 ty0 n0 f ty1 n1 g hc0 hc1
    split at hf
    · rename_i hcond
      obtain ⟨rfl, h4, h5, hel⟩ := hcond
      cases hf
      obtain ⟨⟨t1, t2, t3⟩, -⟩ := hH.2.2.2 a0 b0 _ hc0
      obtain ⟨⟨u1, u2, u3⟩, hB⟩ := hH.2.2.2 a1 true _ hc1
      have hB := hB rfl
      dsimp only at t1 t2 t3 u1 u2 u3
      obtain ⟨-, k0, hk0, cm0, hkk0⟩ := (C.K.2.1 ty0 t1).1 n0 f
      have hcs := cat_sum st
      have hfr := C.fr
      intro T hT X
      obtain ⟨vm', X', step⟩ := X.arraycopy C.1 C.own (C.hts _ V) (C.hts _ hnat) (C.hts _ hstat) (C.hts _ hini) (src := a0) (dst := a1) (cs := arrV (D.2 ty0) n0 f) (cd := arrV (D.2 ty0) n1 g) (srcPos := sp) (destPos := dp) (n := n) (by rw [hT]; exact t3) (by rw [hT]; exact u3)
        (fun _ h => by cases h) (fun _ h => by cases h) (fun h => by cases h) (fun h => by cases h) hk0 hk0 hkk0 hkk0 (by simp) h1 h2 h3
        (by rw [nn sp h1, nn n h3, arrV_size]; omega)
        (by rw [nn dp h2, nn n h3, arrV_size]; omega)
        (fun vm₁ hal i hi => by
          have e : (arrV (D.2 ty0) n0 f).slots.getD (sp.toNatClampNeg + i) .null = f (sp.toNatClampNeg + i) := by
            rw [Array.getD_eq_getD_getElem?, arrV_read _ _ (by omega)]
            rfl
          rw [e]
          have hft := t2 (sp.toNatClampNeg + i) (by omega)
          refine ⟨hft, ?_⟩
          rcases hel with rfl | ⟨rfl, hel⟩
          · cases hv : f (sp.toNatClampNeg + i) with
            | ref y => rw [hv] at hft; cases hft
            | _ => exact trivial
          · have hel := hel i hi
            cases hv : f (sp.toNatClampNeg + i) with
            | ref y =>
              rw [hv] at hel
              unfold ah_el at hel
              dsimp only at hel
              cases hcl : ah_cls σ y with
              | none => rw [hcl] at hel; cases hel
              | some k =>
                rw [hcl] at hel
                dsimp only at hel
                have hk3 : k = 3 ∨ k = 4 ∨ k = 9 := by simpa [or_assoc] using hel
                obtain ⟨cell, r, r1, q1, q2, q3, hat, kC, hkC, -⟩ := sd_obj C hH (by rcases hk3 with rfl | rfl | rfl <;> omega) hcl
                obtain ⟨kA, comp, k1, k2, k3, k4⟩ := (C.K.2.1 _ t1).2
                cases hk0.symm.trans k1
                cases hkk0.symm.trans k2
                obtain ⟨kE, hkE, -⟩ := Vm.findClass_spec k3
                obtain ⟨kC', hkC', -⟩ := hal.2.2 _ _ hkC
                obtain ⟨kE', hkE', -⟩ := hal.2.2 _ _ hkE
                refine ⟨cell, (show T.heap[y]? = some cell by rw [hT]; exact q1), (fun q h => by rw [q2] at h; cases h), ⟨kC', by rw [q3]; exact hkC'⟩, ?_, ?_⟩
                · exact ⟨kE', hkE'⟩
                · show vm₁.assignable _ _ = true
                  rw [hal.assignable, q3]
                  exact sd_asg C (helc k hk3) k3
            | _ => exact trivial)
        (g := F0 m pc ls (.int n :: .int dp :: .ref a1 :: .int sp :: .ref a0 :: st)) rfl (by rw [C.ml]; exact hL.2.1) (rest := st) rfl (by rw [C.2.1]; exact d) (by omega) (by show 2 * 0 + _ + _ ≤ _; have hw : nativeFrameWords "java/lang/System" "arraycopy" 5 + 11 ≤ 100 := (by decide); omega)
      have e1 : copied (arrV (D.2 ty0) n0 f) (arrV (D.2 ty0) n1 g) sp dp n = arrV (D.2 ty0) n1 (va_cpy f g sp.toNatClampNeg dp.toNatClampNeg n.toNatClampNeg) := va_copied (fun z => z) (D.2 ty0) (D.2 ty0) f g h4
      rw [e1] at X' step
      have hlt : a1 < H.size := (Array.getElem?_eq_some_iff.mp u3).1
      have hheap : ((T.setVm vm').setCell a1 (arrV (D.2 ty0) n1 (va_cpy f g sp.toNatClampNeg dp.toNatClampNeg n.toNatClampNeg))).heap = H.setIfInBounds a1 (arrV (D.2 ty0) n1 (va_cpy f g sp.toNatClampNeg dp.toNatClampNeg n.toNatClampNeg)) := by rw [← hT]; rfl
      have k1 := kk (H.setIfInBounds a1 (arrV (D.2 ty0) n1 (va_cpy f g sp.toNatClampNeg dp.toNatClampNeg n.toNatClampNeg))) (locs ++ ((arrV (D.2 ty0) n0 f).stretch sp.toNatClampNeg n.toNatClampNeg).zipIdx.map fun q => (⟨a1, dp.toNatClampNeg + q.2⟩ : Loc)) ls (hH.set hc1 ⟨u1, fun q hq => by
          show fits ty0 (va_cpy f g _ _ _ q) = true
          unfold va_cpy
          split
          · exact t2 _ (by omega)
          · exact u2 q hq, by simp [Array.getElem?_setIfInBounds, hlt]⟩ (by simp) (fun q hq => by simp [Array.getElem?_setIfInBounds, Ne.symm hq])) (fun q hq => by
          rcases List.mem_append.mp hq with h | h
          · exact hl q h
          · obtain ⟨z, -, hz⟩ := List.mem_map.mp h
            rw [← hz]
            exact hB) hL
      obtain ⟨t9, b1, b2⟩ := k1 _ hheap X'
      exact ⟨t9, step t9 b1, b2⟩
    · cases hf
  · cases hf
/-- the clone of a byte array -/
def vd_Cl (own : String) (idx : Nat) : Prop := Cond.methodLink own idx ⟨"[B", "clone", "()Ljava/lang/Object;"⟩ ∈ lw_all ∧ Cond.sameMethod "[B" "java/lang/Object" "clone" "()Ljava/lang/Object;" ∈ lw_all ∧ Cond.native ⟨"java/lang/Object", "clone", "()Ljava/lang/Object;"⟩ ∈ lw_all ∧ Cond.instanceMethod ⟨"java/lang/Object", "clone", "()Ljava/lang/Object;"⟩ ∈ lw_all ∧
  Cond.selects "[B" ⟨"[B", "clone", "()Ljava/lang/Object;"⟩ ⟨"java/lang/Object", "clone", "()Ljava/lang/Object;"⟩ ∈ lw_all ∧ Cond.castable "[B" "java/lang/Cloneable" ∈ lw_tbl
theorem cls_byte {a : Nat} (h : ah_cls σ a = some 1001) (hno : ∀ b vs, σ.1 a ≠ some (b, .inr (1001, vs))) : ∃ (b : Bool) (n : Nat) (f : Nat → Value), σ.1 a = some (b, .inl (.byte, n, f)) := by
  unfold ah_cls at h
  split at h
  · rename_i b k vs e
    cases h
    exact absurd e (hno b vs)
  · rename_i b ty n f e
    have h2 := Option.some.inj h
    unfold ah_tyn at h2
    split at h2
    · exact ⟨b, n, f, e⟩
    · split at h2 <;> omega
    · omega
  · cases h
theorem so_clone (C : sd_CX G D H0 p l R s m args meth c t) {idx a : Nat} (V : vd_Cl (mt_y t).cls idx) (d : sd_at t pc (.invokevirtual idx) 3) (hcl : ah_cls σ a = some 1001) (hst : st.length ≤ 4) (hf : ah_cln σ a = some σ') (hs : s.heap.size ≤ σ.2.1) (hu : u0 ≤ σ.2.2) (hr1 : σ'.2.1 - s.heap.size ≤ R.cells) (hr2 : σ'.2.2 - u0 ≤ R.slots)
    (kk : sd_W D H0 p l e R s m args below meth c t u0 Q σ' (pc + 3) L (.ref σ.2.1 :: st)) : sd_W D H0 p l e R s m args below meth c t u0 Q σ pc L (.ref a :: st) := by
  intro H locs ls hH hl hL
  obtain ⟨V1, V2, V3, V4, V5, V6⟩ := V
  obtain ⟨b, n, f, hc⟩ := cls_byte hcl (fun b vs e => by
    obtain ⟨r, r1, -⟩ := (hH.2.2.2 a b _ e).1
    exact absurd (List.getElem?_eq_some_iff.mp r1).1 (show ¬ 1001 < sd_cl.length by decide))
  unfold ah_cln at hf
  rw [hc] at hf
  cases hf
  obtain ⟨t1, t2, t3⟩ := (hH.2.2.2 a b _ hc).1
  have hnm : s.vm.findClass "[B" = some (D.2 .byte) := (C.K.2.1 _ t1).2
  obtain ⟨c0, t0', f1, f2, f3⟩ := Cond.castable_spec (va_Nw.use (A := args) rfl (C.rd V6 rfl))
  cases hnm.symm.trans f1
  have hcs := cat_sum st
  have hfr := C.fr
  intro T hT X
  obtain ⟨-, kA, hkA, comp, hkind⟩ := State.isArrayOf_alike X.warmed.alike ((C.K.2.1 _ t1).1 0 (fun _ => .null))
  obtain ⟨-, kS, hkS, compS, hkindS⟩ := (C.K.2.1 _ t1).1 0 (fun _ => .null)
  have hr1' : σ.2.1 + 1 - s.heap.size ≤ R.cells := hr1
  have hr2' : σ.2.2 + n - u0 ≤ R.slots := hr2
  obtain ⟨vm', X', st1⟩ := X.cloneArray C.1 C.own (C.hts _ V1) (C.hts _ V2) (C.hts _ V3) (C.hts _ V4) (C.hts _ V5) (a := a) (cell := arrV (D.2 .byte) n f) (by rw [hT]; exact t3) (fun k h => by cases h) (fun h => by cases h) hnm f2 f3
    (fun i v hv => by
      have hk' : T.vm.classes[D.2 .byte]? = some kA := hkA
      have hi : i < n := by
        have := (Array.getElem?_eq_some_iff.mp hv).1
        rwa [arrV_size] at this
      rw [arrV_read _ _ hi] at hv
      cases hv
      simpa [State.fitsSlot, State.slotType?, arrV, hk', hkind] using t2 i hi)
    (g := F0 m pc ls (.ref a :: st)) rfl (by rw [C.ml]; exact hL.2.1) rfl (by rw [C.2.1]; exact d) (by omega) (by show 2 * 0 + _ + 14 ≤ _; omega) (by omega) (by rw [arrV_size]; omega) (hloader := Vm.clonesLoader_of_array hkS hkindS)
  have hcellE : ({ cls := (arrV (D.2 .byte) n f).cls, slots := (arrV (D.2 .byte) n f).slots } : Cell) = arrV (D.2 .byte) n f := rfl
  rw [hcellE, arrV_size] at X'
  generalize hH1 : H.push (arrV (D.2 .byte) n f) = H1
  have z1 : H1.size = H.size + 1 := by rw [← hH1, Array.size_push]
  have e1 : H1[H.size]? = some (arrV (D.2 .byte) n f) := by rw [← hH1, Array.getElem?_push_size]
  have o1 : ∀ q : Nat, q < H.size → H1[q]? = H[q]? := fun q hq => by rw [← hH1, Array.getElem?_push, if_neg (Nat.ne_of_lt hq)]
  have k1 := kk H1 locs ls (hH.new (n := n) (c := .inl (.byte, n, f)) ⟨t1, t2, e1⟩ z1 o1) hl hL
  have e3 : (ah_new σ (.inl (.byte, n, f)) n).2.1 - s.heap.size = σ.2.1 - s.heap.size + 1 := by show σ.2.1 + 1 - s.heap.size = _; omega
  have e4 : (ah_new σ (.inl (.byte, n, f)) n).2.2 - u0 = σ.2.2 - u0 + n := by show σ.2.2 + n - u0 = _; omega
  rw [e3, e4] at k1
  obtain ⟨t9, b1, b2⟩ := k1 ((T.setVm vm').pushCell (arrV (D.2 .byte) n f)) (by rw [← hH1, ← hT]; rfl) X'
  refine ⟨t9, st1 t9 ?_, b2⟩
  rw [hcellE, hT, hH.1]
  exact b1
/-- getClass of an array of objects -/
def vd_Gc (own : String) (idx : Nat) : Prop := Cond.methodLink own idx ⟨"java/lang/Object", "getClass", "()Ljava/lang/Class;"⟩ ∈ lw_all ∧ Cond.declares ⟨"java/lang/Object", "getClass", "()Ljava/lang/Class;"⟩ ∈ lw_tbl ∧ Cond.selects "[Ljava/lang/Object;" ⟨"java/lang/Object", "getClass", "()Ljava/lang/Class;"⟩ ⟨"java/lang/Object", "getClass", "()Ljava/lang/Class;"⟩ ∈ lw_all ∧
  Cond.instanceMethod ⟨"java/lang/Object", "getClass", "()Ljava/lang/Class;"⟩ ∈ lw_all ∧ Cond.native ⟨"java/lang/Object", "getClass", "()Ljava/lang/Class;"⟩ ∈ lw_all
theorem cls_objs {a : Nat} (h : ah_cls σ a = some 1002) (hno : ∀ b vs, σ.1 a ≠ some (b, .inr (1002, vs))) : ∃ (b : Bool) (n : Nat) (f : Nat → Value), σ.1 a = some (b, .inl (.object "java/lang/Object", n, f)) := by
  unfold ah_cls at h
  split at h
  · rename_i b k vs e
    cases h
    exact absurd e (hno b vs)
  · rename_i b ty n f e
    have h2 := Option.some.inj h
    unfold ah_tyn at h2
    split at h2
    · omega
    · split at h2
      · rename_i nm hn
        subst hn
        exact ⟨b, n, f, e⟩
      · omega
    · omega
  · cases h
theorem so_getC (C : sd_CX G D H0 p l R s m args meth c t) {idx a : Nat} (V : vd_Gc (mt_y t).cls idx) (d : sd_at t pc (.invokevirtual idx) 3) (hcl : ah_cls σ a = some 1002) (hst : st.length ≤ 4)
    (kk : sd_W D H0 p l e R s m args below meth c t u0 Q σ (pc + 3) L (G 0 :: st)) : sd_W D H0 p l e R s m args below meth c t u0 Q σ pc L (.ref a :: st) := by
  intro H locs ls hH hl hL
  obtain ⟨V1, V2, V3, V4, V5⟩ := V
  obtain ⟨b, n, f, hc⟩ := cls_objs hcl (fun b vs e => by
    obtain ⟨r, r1, -⟩ := (hH.2.2.2 a b _ e).1
    exact absurd (List.getElem?_eq_some_iff.mp r1).1 (show ¬ 1002 < sd_cl.length by decide))
  obtain ⟨t1, t2, t3⟩ := (hH.2.2.2 a b _ hc).1
  obtain ⟨mi, h2, h3⟩ := C.K.2.2.2.2.2.2.2.1
  have hnm : s.vm.findClass "[Ljava/lang/Object;" = some (D.2 (.object "java/lang/Object")) := va_nmO (C.K.2.1 _ t1).2 (by decide)
  have k1 := kk H locs ls hH hl hL
  rw [h2] at k1
  have hcs := cat_sum st
  have hfr := C.fr
  exact va_getC C.1 C.2.1 (by rw [C.ml]; exact hL.2.1.symm) C.own (C.hts _ V1) (va_Nw.use rfl (C.rd V2 rfl)) (C.hts _ V3) (C.hts _ V4) (C.hts _ V5) h3 ⟨_, t3, rfl, hnm⟩ (by omega) (by omega) d k1
end SD4
