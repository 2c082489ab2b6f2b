/-! SOUNDNESS, 9: what the abstract machine comes to, the JVM comes to -/
section S9
variable {G : Nat → Value} {D : sd_D} {H0 : Heap} {l : Launch}
/-- all rows that hold the table to the bytes and the words -/
abbrev vd_all : Prop := ∀ (t pc : Nat) (i : Instr) (aux : List (Nat × Nat)), tb_code t pc = some (i, aux) → vd (mt_c t) (mt_y t).cls (mt_y t).name (tb_ret t) pc i aux
abbrev sd_mj : Prop := tb_wide tb_mj = [0, 2] ∧ tb_maxl tb_mj = 4
/-- a return of a callee -/
theorem so_ret {p : Program} {e : Env} {R : Room} {s : State} {m : MethodId} {args : Array Value} {below : List Frame} {meth : Method} {c : Code} {t u0 pc : Nat} {σ : AH} {L : List (Option Value)} {st : List Value} {v : Option Value} {r : ip_Out} (C : sd_CX G D H0 p l R s m args meth c t) (hr : r = .inl v) (hR : sd_Rt t pc st v) :
    sd_W D H0 p l e R s m args below meth c t u0 (vx_MQ below (sd_Qc D H0 r σ) (sd_XC D H0 r σ) args s (σ.2.1 - s.heap.size) (σ.2.2 - u0) (fun q => H0.size ≤ q)) σ pc L st := by
  intro H locs ls hH hl hL
  have hq : ∀ t9 : State, t9.heap = H → s.WarmedH t9.vm → sd_Qc D H0 r σ args s (.returned v) t9 := fun t9 h9 _ => ⟨v, hr, rfl, by rw [h9]; exact hH⟩
  refine vx_ret ?_
  rcases hR with ⟨rfl, rfl, d, h1⟩ | ⟨x, rfl, rfl, d, h1⟩ | ⟨x, rfl, rfl, d, h1⟩ | ⟨x, rfl, rfl, d, h1⟩ | ⟨w, rfl, rfl, hw, d, h1⟩
  · exact W.vret C.1 C.2.1 (by rw [C.ret]; exact h1) hq hl d C.locks
  · cases hty : tb_ret t with
    | none => rw [hty] at h1; cases h1
    | some ty =>
      rw [hty] at h1
      simp only [ip_rok, Bool.and_eq_true, decide_eq_true_eq] at h1
      exact W.zret C.1 C.2.1 (by rw [C.ret]; exact hty) h1.2 hq hl d C.locks
  · exact W.lret C.1 C.2.1 (by rw [C.ret]; exact h1) hq hl d C.locks
  · exact W.dret C.1 C.2.1 (by rw [C.ret]; exact h1) hq hl d C.locks
  · rcases h1 with ⟨n, h1⟩ | ⟨ty, h1⟩
    · exact W.aret C.1 C.2.1 (by rw [C.ret]; exact h1) (Or.inl ⟨n, rfl⟩) hw hq hl d C.locks
    · exact W.aret C.1 C.2.1 (by rw [C.ret]; exact h1) (Or.inr ⟨ty, rfl⟩) hw hq hl d C.locks
/-- a throw that leaves a callee -/
theorem so_thr {p : Program} {e : Env} {R : Room} {s : State} {m : MethodId} {args : Array Value} {below : List Frame} {meth : Method} {c : Code} {t u0 pc k : Nat} {σ : AH} {L : List (Option Value)} {st : List Value} {r : ip_Out} (C : sd_CX G D H0 p l R s m args meth c t) (VH : vd_H t) (hr : r = .inr k) (hh : ip_hnd t pc k = none) :
    sd_TW D H0 p l e R s m args below meth c t u0 (vx_MQ below (sd_Qc D H0 r σ) (sd_XC D H0 r σ) args s (σ.2.1 - s.heap.size) (σ.2.2 - u0) (fun q => H0.size ≤ q)) σ k pc L st := by
  intro H locs ls q ce rr hH hl hL hx hrr hce hcv hcl
  obtain ⟨hs, e1, e2, e3⟩ := VH
  have h1 := hnd_none hh
  rw [e1] at h1
  refine vx_outP C.own C.locks (fun z hz => ?_) hce hcv hcl (fun t9 h9 _ => ⟨k, rr, hr, hx, hrr, rfl, by rw [h9]; exact hH⟩) hl (Nat.le_refl _) (Nat.le_refl _)
  rw [C.tbl, e2] at hz
  obtain ⟨q1, hq1, rfl⟩ := List.mem_map.mp hz
  obtain ⟨q2, hq2, rfl⟩ := List.mem_map.mp hq1
  exact so_pass C hx hrr (e3 q2 hq2) (h1 _ (List.mem_map.mpr ⟨q2, hq2, rfl⟩))
/-- what a run comes to, the JVM's frame comes to -/
def sd_OK (G : Nat → Value) (D : sd_D) (H0 : Heap) (l : Launch) (n : Nat) : Prop :=
  ∀ (d t pc : Nat) (L : List (Option Value)) (st : List Value) (σ : AH) (r : ip_Out) (σf : AH), ip_run G d n t pc L st σ = some (r, σf) →
  ∀ (p : Program) (e : Env) (R : Room) (s : State) (m : MethodId) (args : Array Value) (below : List Frame) (meth : Method) (c : Code) (u0 : Nat) (Q : State → Prop), sd_CX G D H0 p l R s m args meth c t → vd_H t → (20 + d ≤ R.frames ∧ 400 + 60 * d ≤ R.locals) →
    s.heap.size ≤ σ.2.1 → u0 ≤ σ.2.2 → σf.2.1 - s.heap.size ≤ R.cells → σf.2.2 - u0 ≤ R.slots →
    (∀ v pc L st, r = .inl v → sd_Rt t pc st v → sd_W D H0 p l e R s m args below meth c t u0 Q σf pc L st) →
    (∀ k pc L st, r = .inr k → ip_hnd t pc k = none → sd_TW D H0 p l e R s m args below meth c t u0 Q σf k pc L st) →
    sd_W D H0 p l e R s m args below meth c t u0 Q σ pc L st
/-- a body meets its contract, in any class whose member the machine has no entry for -/
theorem so_of {y : MethodName} {w0 : Cond} {ws' : List Cond} {rm : Room} {Pc : Array Value → State → Prop} {Qc : Array Value → State → Outcome → State → Prop} {XC : String → State → State → Prop} {mc ms : Nat} {free : Addr → Prop} {cc : ByteArray} {maxL : Nat} {ret : Option FieldType}
    (hy : plainFor y = true) (hw : (∃ hh, w0 = Cond.codeWith y cc maxL ret hh) ∨ w0 = Cond.code y cc maxL ret)
    (body : ∀ p e s m args below meth c s₁, BodyLoose p l y (headSpec (w0 :: ws') rm) cc maxL ret e s m args below meth c s₁ → c.maxLocals = maxL → Pc args s →
      W p l e (headSpec (w0 :: ws') rm).room s m args below meth c s.heap [] 0 0 (vx_MQ below Qc XC args s mc ms free) (entryFrame m args maxL)) : vx_Met l y (w0 :: ws') rm Pc Qc XC mc ms free := by
  refine MetFree.of_bodySF (code := cc) (maxLocals := maxL) (ret := ret) hy ?_ ?_
  · intro args s m h hn
    have h0 := atoms_spec (ws := w0 :: ws') h _ List.mem_cons_self
    rcases hw with ⟨hh, rfl⟩ | rfl
    · obtain ⟨m9, meth, c, hn9, h1, h2, h3, h4, -, h5, h6, -⟩ := Cond.codeWith_spec h0
      cases hn.symm.trans hn9
      exact ⟨meth, c, h1, h2, h3, h4, h5, h6⟩
    · obtain ⟨meth, c, h1, h2, h3, h4, h5, h6, -, -⟩ := Cond.code_spec hn h0
      exact ⟨meth, c, h1, h2, h3, h4, h5, h6⟩
  · intro p e s m args below meth c s₁ B hml hP _
    have hh0 : s₁.heap = s.heap := by rw [B.state]; rfl
    obtain ⟨t, a1, o, b1, b2, b3⟩ := body p e s m args below meth c s₁ B hml hP s₁ hh0 (Stand.of_body B)
    exact ⟨t, o, a1, b1, b2, b3⟩
theorem so_noH {y : MethodName} {ws' : List Cond} {cc : ByteArray} {maxL : Nat} {ret : Option FieldType} {rm : Room} {p : Program} {e : Env} {s : State} {m : MethodId} {args : Array Value} {below : List Frame} {meth : Method} {c : Code} {s₁ : State} (B : BodyLoose p l y (headSpec (Cond.code y cc maxL ret :: ws') rm) cc maxL ret e s m args below meth c s₁) : c.exceptionTable.toList = [] := by
  obtain ⟨meth9, c9, h1, h2, -, -, -, -, h7, -⟩ := Cond.code_spec B.named (atoms_spec (ws := Cond.code y cc maxL ret :: ws') B.pre _ List.mem_cons_self)
  cases Option.some.inj (h1.symm.trans B.method)
  cases Option.some.inj (h2.symm.trans (Stand.of_body B).code)
  rw [Array.isEmpty_iff.mp h7]
theorem so_met (VA : vd_all) (hmj : sd_mj) (hl0 : l.stackTraces = false) {n : Nat} (IH : sd_OK G D H0 l n) {d t : Nat} {As : List Value} {σ : AH} {r : ip_Out} {σ2 : AH} (K : vd_K t) (VH : vd_H t) (hrun : ip_run G d n t 0 (ip_en (tb_maxl t) As) [] σ = some (r, σ2)) (hent : sd_L (tb_wide t) (tb_maxl t) (ip_en (tb_maxl t) As) ((lg_sl As ++ List.replicate (tb_maxl t - (lg_sl As).length) Slot.unset).toArray)) :
    vx_Met l (mt_y t) (mt_ws t) { frames := 20 + d, locals := 400 + 60 * d, cells := σ2.2.1 - σ.2.1, slots := σ2.2.2 - σ.2.2 } (sd_Pc G D H0 As σ) (sd_Qc D H0 r σ2) (sd_XC D H0 r σ2) (σ2.2.1 - σ.2.1) (σ2.2.2 - σ.2.2) (fun q => H0.size ≤ q) := by
  have body : ∀ p e s m args below meth c s₁, BodyLoose p l (mt_y t) (headSpec (mt_ws t) { frames := 20 + d, locals := 400 + 60 * d, cells := σ2.2.1 - σ.2.1, slots := σ2.2.2 - σ.2.2 }) (mt_c t) (tb_maxl t) (tb_ret t) e s m args below meth c s₁ → c.maxLocals = tb_maxl t → c.exceptionTable.toList = tableOf (mt_h t) → sd_Pc G D H0 As σ args s →
      W p l e { frames := 20 + d, locals := 400 + 60 * d, cells := σ2.2.1 - σ.2.1, slots := σ2.2.2 - σ.2.2 } s m args below meth c s.heap [] 0 0 (vx_MQ below (sd_Qc D H0 r σ2) (sd_XC D H0 r σ2) args s (σ2.2.1 - σ.2.1) (σ2.2.2 - σ.2.2) (fun q => H0.size ≤ q)) (entryFrame m args (tb_maxl t)) := by
    intro p e s m args below meth c s₁ B hml htab hP
    obtain ⟨rfl, hK, hH⟩ := hP
    rw [lg_entry_eq]
    have hz : s.heap.size = σ.2.1 := hH.1
    have hws : ∀ w ∈ mt_ws t, w.before As.toArray s = true := atoms_spec (ws := mt_ws t) B.pre
    have C : sd_CX G D H0 p l { frames := 20 + d, locals := 400 + 60 * d, cells := σ2.2.1 - σ.2.1, slots := σ2.2.2 - σ.2.2 } s m As.toArray meth c t := ⟨B.exec, B.bytes, B.returns, hml, findClass_of_methodNamed B.named, fun w hw => hws w (List.mem_cons_of_mem _ hw), B.notSynchronized, (name_of_methodNamed B.named B.method).1, htab, hK, hl0, by show 20 ≤ 20 + d; omega, by show 400 ≤ 400 + 60 * d; omega⟩
    have k1 := IH d t 0 _ [] σ r σ2 hrun p e { frames := 20 + d, locals := 400 + 60 * d, cells := σ2.2.1 - σ.2.1, slots := σ2.2.2 - σ.2.2 } s m As.toArray below meth c σ.2.2 (vx_MQ below (sd_Qc D H0 r σ2) (sd_XC D H0 r σ2) As.toArray s (σ2.2.1 - σ.2.1) (σ2.2.2 - σ.2.2) (fun q => H0.size ≤ q)) C VH ⟨Nat.le_refl _, Nat.le_refl _⟩ (by omega) (Nat.le_refl _) (by show _ ≤ σ2.2.1 - σ.2.1; omega) (Nat.le_refl _)
      (fun v pc L st hr hR => by rw [← hz]; exact so_ret C hr hR) (fun k pc L st hr hh => by rw [← hz]; exact so_thr C VH hr hh)
    have k2 := k1 s.heap [] _ hH (fun q hq => nomatch hq) hent
    rw [hz, Nat.sub_self, Nat.sub_self] at k2
    exact k2
  by_cases h0 : mt_h t = []
  · rw [mt_code h0] at body ⊢
    refine so_of (cc := mt_c t) (maxL := tb_maxl t) (ret := tb_ret t) K.1 (Or.inr rfl) (fun p e s m args below meth c s₁ B hml hP => body p e s m args below meth c s₁ B hml ?_ hP)
    rw [h0]
    exact so_noH B
  · rw [mt_codeW h0] at body ⊢
    exact so_of (cc := mt_c t) (maxL := tb_maxl t) (ret := tb_ret t) K.1 (Or.inl ⟨mt_h t, rfl⟩) (fun p e s m args below meth c s₁ B hml hP => body p e s m args below meth c s₁ B hml (vx_table (x := mt_y t) B (atoms_spec B.pre _ List.mem_cons_self)) hP)
theorem sound (V0 : vd_0) (VA : vd_all) (hmj : sd_mj) (hl0 : l.stackTraces = false) : ∀ n : Nat, sd_OK G D H0 l n := by
  intro n
  induction n with
  | zero => intro d t pc L st σ r σf h; cases h
  | succ n IH =>
    intro d t pc L st σ r σf h p e R s m args below meth c u0 Q C VH hR hs hu hc1 hc2 hret hthr
    unfold ip_run at h
    split at h
    · cases h
    rename_i i aux hcode
    have V := VA t pc i aux hcode
    split at h
    · cases h
    · rename_i pc' L' st' σ' ha
      have hle := act_le ha
      have hle2 := run_le n d t pc' L' st' σ' r σf h
      refine so_step C V0 V hs hu ha (fun pc2 L2 st2 σ2 hE => ?_) (fun v hE => by cases hE) (fun t' As len n' P st2 hE => by cases hE) (fun k a st2 hE => by cases hE)
      cases hE
      exact ⟨⟨by have := hle2.1; omega, by have := hle2.2; omega⟩, IH d t pc' L' st' σ' r σf h p e R s m args below meth c u0 Q C VH hR (Nat.le_trans hs hle.1) (Nat.le_trans hu hle.2) hc1 hc2 hret hthr⟩
    · rename_i v σ' ha
      cases Option.some.inj h
      refine so_step C V0 V hs hu ha (fun pc2 L2 st2 σ2 hE => by cases hE) (fun v2 hE hRt => ?_) (fun t' As len n' P st2 hE => by cases hE) (fun k a st2 hE => by cases hE)
      cases hE
      exact hret _ _ _ _ rfl hRt
    · rename_i k σ' ha
      refine so_step C V0 V hs hu ha (fun pc2 L2 st2 σ2 hE => by cases hE) (fun v2 hE => by cases hE) (fun t' As len n' P st2 hE => by cases hE) (fun k2 a st2 hE hst hcl hx d9 => ?_)
      cases hE
      subst hst
      refine so_athrow C d9 hcl hx ?_
      split at h
      · rename_i hh
        cases Option.some.inj h
        exact hthr _ _ _ _ rfl hh
      · rename_i h9 hh
        split at h
        · cases h
        · rename_i pc2 L2 hca
          exact so_catch C VH hh fun q => so_caught C (VA t) hca q (IH d t pc2 L2 [] σ r σf h p e R s m args below meth c u0 Q C VH hR hs hu hc1 hc2 hret hthr)
    · rename_i t' As pc' L' st' σ' ha
      refine so_step C V0 V hs hu ha (fun pc2 L2 st2 σ2 hE => by cases hE) (fun v2 hE => by cases hE) (fun t2 As2 len n' P st2 hE J hn hP hok hst hst4 => ?_) (fun k a st2 hE => by cases hE)
      cases hE
      subst hst
      split at h
      · cases h
      rename_i d'
      split at h
      · cases h
      · rename_i v σ2 hr2
        have hle := run_le _ _ _ _ _ _ _ _ _ hr2
        have hle2 := run_le _ _ _ _ _ _ _ _ _ h
        refine so_call C J hn hP hst4 hR hs hu hle (by have := hle2.1; omega) (by have := hle2.2; omega) (so_met VA hmj hl0 IH J.1.1 J.1.2.1 hr2 (so_entry hok hn J.2.1 J.2.2.1 hmj)) (fun v' hv => ?_) (fun k hk => by cases hk)
        cases hv
        exact IH (d' + 1) t _ _ _ σ2 r σf h p e R s m args below meth c u0 Q C VH hR (Nat.le_trans hs hle.1) (Nat.le_trans hu hle.2) hc1 hc2 hret hthr
      · rename_i k σ2 hr2
        have hle := run_le _ _ _ _ _ _ _ _ _ hr2
        split at h
        · rename_i hh
          cases Option.some.inj h
          refine so_call C J hn hP hst4 hR hs hu hle hc1 hc2 (so_met VA hmj hl0 IH J.1.1 J.1.2.1 hr2 (so_entry hok hn J.2.1 J.2.2.1 hmj)) (fun v' hv => by cases hv) (fun k' hk => ?_)
          cases hk
          exact hthr _ _ _ _ rfl hh
        · rename_i h9 hh
          split at h
          · cases h
          · rename_i pc2 L2 hca
            have hle2 := run_le _ _ _ _ _ _ _ _ _ h
            refine so_call C J hn hP hst4 hR hs hu hle (by have := hle2.1; omega) (by have := hle2.2; omega) (so_met VA hmj hl0 IH J.1.1 J.1.2.1 hr2 (so_entry hok hn J.2.1 J.2.2.1 hmj)) (fun v' hv => by cases hv) (fun k' hk => ?_)
            cases hk
            exact so_catch C VH hh fun q => so_caught C (VA t) hca q (IH (d' + 1) t pc2 L2 [] σ2 r σf h p e R s m args below meth c u0 Q C VH hR (Nat.le_trans hs hle.1) (Nat.le_trans hu hle.2) hc1 hc2 hret hthr)
end S9
