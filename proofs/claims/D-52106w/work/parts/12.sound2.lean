/-! SOUNDNESS, 2: what a method's frame knows; the instructions one by one -/
/-- a word that stays true while the run warms the tables, and is asked of no heap -/
def sd_ride (w : Cond) : Bool := match w with
  | .fieldLinkNest .. => true
  | .methodLinkNest .. => true
  | w => w.onTables && w.keepsFace
theorem sd_ride_mv {w : Cond} (hr : sd_ride w = true) {s U : State} (hW : s.WarmedH U.vm) (h : va_Nw w s) : va_Nw w U := by
  have gen : ∀ w : Cond, (w.onTables && w.keepsFace) = true → va_Nw w s → va_Nw w U := by
    intro w hr h
    simp only [Bool.and_eq_true] at hr
    exact va_tabs hr.1 (rfl : (s.setVm U.vm).vm = U.vm) (Cond.before_shiftedFace (State.Shifted.of_warmed hW) w hr.2 h)
  unfold sd_ride at hr
  split at hr
  · exact va_Nw.warmF hW h
  · exact va_Nw.warmM hW h
  · exact gen _ hr h
def sd_AI (U : State) : Prop := (Cond.arrayOver (.array .int)).before #[] U = true
theorem sd_AI.moved {u U : State} (hvm : u.vm.Alike U.vm) (h : sd_AI u) : sd_AI U := by
  have e := Cond.arrayOver_setVmC (args := #[]) hvm (.array .int)
  have e2 : (Cond.arrayOver (.array .int)).before #[] (u.setVm U.vm) = (Cond.arrayOver (.array .int)).before #[] U := rfl
  unfold sd_AI at h ⊢
  rw [← e2, e]
  exact h
theorem sd_AI.use {U : State} {A : Array Value} (h : sd_AI U) : (Cond.arrayOver (.array .int)).before A U = true := h
theorem sd_nlm_ok : ∀ w ∈ sd_nlm, sd_ride w = true := by decide
theorem sd_face_mv {a b n d : String} {s U : State} (hW : s.WarmedH U.vm) (h : va_Nw (.interfaceMethod a b n d) s) : va_Nw (.interfaceMethod a b n d) U := by
  refine va_tabs rfl (rfl : (s.setVm U.vm).vm = U.vm) (A := #[]) ?_
  have hA := hW.alike
  have e : (Cond.interfaceMethod a b n d).before #[] (s.setVm U.vm) = (Cond.interfaceMethod a b n d).before #[] s := by
    simp only [Cond.before, Cond.holds, Cond.value, State.vm_setVm, hA.findClass, State.methodFound?_setVm hA, State.methodNamed?_setVm hA, arm_isInterface_setVm hA]
  rw [e]
  exact h
/-- what stays true all through a run -/
def sd_K (G : Nat → Value) (D : sd_D) (H0 : Heap) (U : State) : Prop :=
  va_K D.1 sd_cl [] U ∧ (∀ ty ∈ sd_atys, ArrOfT U (D.2 ty) ty ∧ va_RA U (D.2 ty) ty) ∧ (∀ w ∈ lw_tbl, sd_ride w = true → va_Nw w U) ∧ ((∀ w ∈ sd_nlm, va_Nw w U) ∧ (∀ q ∈ sd_nli, va_Nw (.interfaceMethod q.1 q.2.1 q.2.2.1 q.2.2.2) U) ∧ sd_AI U) ∧
  (∀ q ∈ sd_nc, va_Nc q.1 q.2 U) ∧ (∀ q ∈ sd_st, va_Z q.2.1 q.2.2.1 q.2.2.2 (G q.1) (fun a => H0.size ≤ a) U H0) ∧
  (∀ q ∈ sd_sr, ∃ a : Nat, G q.1 = .ref a ∧ vk_R q.2.1 q.2.2.1 q.2.2.2 a U) ∧ (∃ mi : Nat, G 0 = .ref mi ∧ va_Mi "[Ljava/lang/Object;" mi U) ∧ (∀ C ∈ sd_ao, va_AO C U) ∧
  vx_Zq Bundle.tN "UNASSIGNED_STACK" Bundle.steD (fun a => H0.size ≤ a) U H0 ∧ vx_Zq Bundle.tN "SUPPRESSED_SENTINEL" Bundle.listD (fun a => H0.size ≤ a) U H0
theorem sd_K.moved {G : Nat → Value} {D : sd_D} {H0 : Heap} {s U : State} (hW : s.WarmedH U.vm) (h : sd_K G D H0 s) : sd_K G D H0 U := by
  obtain ⟨h1, h2, h3, h4, h5, h6, h7, ⟨mi, h8, h9⟩, h10, h11, h12⟩ := h
  refine ⟨va_K.moved hW.alike h1, fun ty hty => ⟨arrOfT_moved hW.alike (h2 ty hty).1, (h2 ty hty).2.moved hW.alike⟩, fun w hw hr => sd_ride_mv hr hW (h3 w hw hr), ⟨fun w hw => sd_ride_mv (sd_nlm_ok w hw) hW (h4.1 w hw), fun q hq => sd_face_mv hW (h4.2.1 q hq), h4.2.2.moved hW.alike⟩, fun q hq => (h5 q hq).moved hW.alike, fun q hq => (h6 q hq).moved hW.alike, fun q hq => ?_, ⟨mi, h8, h9.moved hW.alike⟩, fun C hC => (h10 C hC).moved hW.alike, h11.moved hW.alike, h12.moved hW.alike⟩
  obtain ⟨a, g1, g2⟩ := h7 q hq
  exact ⟨a, g1, vk_R.warm hW g2⟩
section SD2
variable {G : Nat → Value} {D : sd_D} {H0 : Heap} {p : Program} {l : Launch} {e : Env} {R : Room} {s : State} {m : MethodId} {args : Array Value} {below : List Frame} {meth : Method} {c : Code} {t : Nat}
/-- a frame of method t -/
def sd_CX (G : Nat → Value) (D : sd_D) (H0 : Heap) (p : Program) (l : Launch) (R : Room) (s : State) (m : MethodId) (args : Array Value) (meth : Method) (c : Code) (t : Nat) : Prop :=
  p.tables.exec = Jvm.exec ∧ c.code = mt_c t ∧ meth.sig.returnType = tb_ret t ∧ c.maxLocals = tb_maxl t ∧ s.vm.findClass (mt_y t).cls = some m.cls ∧ (∀ w ∈ lw_all, w.before args s = true) ∧ meth.locks = false ∧ meth.name = (mt_y t).name ∧
  c.exceptionTable.toList = tableOf (mt_h t) ∧ sd_K G D H0 s ∧ l.stackTraces = false ∧ 20 ≤ R.frames ∧ 400 ≤ R.locals
/-- from here on W holds, whatever the heap and the locals are that the abstract ones speak of -/
def sd_W (D : sd_D) (H0 : Heap) (p : Program) (l : Launch) (e : Env) (R : Room) (s : State) (m : MethodId) (args : Array Value) (below : List Frame) (meth : Method) (c : Code) (t u0 : Nat) (Q : State → Prop) (σ : AH) (pc : Nat) (L : List (Option Value)) (st : List Value) : Prop :=
  ∀ (H : Heap) (locs : List Loc) (ls : Array Slot), sd_H D H0.size H0 σ H → (∀ q ∈ locs, H0.size ≤ q.base) → sd_L (tb_wide t) (tb_maxl t) L ls → W p l e R s m args below meth c H locs (σ.2.1 - s.heap.size) (σ.2.2 - u0) Q (F0 m pc ls st)
variable {u0 : Nat} {Q : State → Prop} {σ σ' : AH} {pc pc' : Nat} {L L' : List (Option Value)} {st st' : List Value} {i : Instr} {aux : List (Nat × Nat)}
/-- the instruction at pc, as the bytes have it -/
abbrev sd_at (t pc : Nat) (i : Instr) (n : Nat) : Prop := decode (mt_c t) pc = .ok (i, n)
theorem nx_inj {pc1 pc2 : Nat} {L1 L2 : List (Option Value)} {s1 s2 : List Value} {σ1 σ2 : AH} (h : ip_nx pc1 L1 s1 σ1 = some (.inl ((pc2, L2, s2), σ2))) : pc1 = pc2 ∧ L1 = L2 ∧ s1 = s2 ∧ σ1 = σ2 := by
  unfold ip_nx at h
  cases h
  exact ⟨rfl, rfl, rfl, rfl⟩
section Pure
/-! rows that touch the stack alone -/
theorem sp_iconst (C : sd_CX G D H0 p l R s m args meth c t) {n : Int} (d : sd_at t pc (.iconst n) 1) (k : sd_W D H0 p l e R s m args below meth c t u0 Q σ (pc + 1) L (.int (Int32.ofInt n) :: st)) : sd_W D H0 p l e R s m args below meth c t u0 Q σ pc L st :=
  fun H locs ls hH hl hL => lv_iconst C.1 C.2.1 d rfl (k H locs ls hH hl hL)
theorem sp_bipush (C : sd_CX G D H0 p l R s m args meth c t) {n : Int} (d : sd_at t pc (.bipush n) 2) (k : sd_W D H0 p l e R s m args below meth c t u0 Q σ (pc + 2) L (.int (Int8.ofInt n).toInt32 :: st)) : sd_W D H0 p l e R s m args below meth c t u0 Q σ pc L st :=
  fun H locs ls hH hl hL => lv_bipush C.1 C.2.1 d rfl (k H locs ls hH hl hL)
theorem sp_sipush (C : sd_CX G D H0 p l R s m args meth c t) {n : Int} (d : sd_at t pc (.sipush n) 3) (k : sd_W D H0 p l e R s m args below meth c t u0 Q σ (pc + 3) L (.int (Int16.ofInt n).toInt32 :: st)) : sd_W D H0 p l e R s m args below meth c t u0 Q σ pc L st :=
  fun H locs ls hH hl hL => lv_sipush C.1 C.2.1 d rfl (k H locs ls hH hl hL)
theorem sp_lconst (C : sd_CX G D H0 p l R s m args meth c t) {n : Fin 2} (d : sd_at t pc (.lconst n) 1) (k : sd_W D H0 p l e R s m args below meth c t u0 Q σ (pc + 1) L (.long (Int64.ofNat (n : Nat)) :: st)) : sd_W D H0 p l e R s m args below meth c t u0 Q σ pc L st :=
  fun H locs ls hH hl hL => lv_lconst C.1 C.2.1 d rfl (k H locs ls hH hl hL)
theorem sp_dconst (C : sd_CX G D H0 p l R s m args meth c t) {n : Fin 2} (hn : (n : Nat) = 0) (d : sd_at t pc (.dconst n) 1) (k : sd_W D H0 p l e R s m args below meth c t u0 Q σ (pc + 1) L (.double FP.dconst0 :: st)) : sd_W D H0 p l e R s m args below meth c t u0 Q σ pc L st := by
  have e : n = 0 := Fin.ext hn
  subst e
  exact fun H locs ls hH hl hL => lv_dconst0 C.1 C.2.1 d (k H locs ls hH hl hL)
theorem sp_null (C : sd_CX G D H0 p l R s m args meth c t) (d : sd_at t pc .aconst_null 1) (k : sd_W D H0 p l e R s m args below meth c t u0 Q σ (pc + 1) L (.null :: st)) : sd_W D H0 p l e R s m args below meth c t u0 Q σ pc L st :=
  fun H locs ls hH hl hL => lv_null C.1 C.2.1 d (k H locs ls hH hl hL)
theorem sp_iload_n (C : sd_CX G D H0 p l R s m args meth c t) {j : Fin 4} {x : Int32} (d : sd_at t pc (.iload_n j) 1) (hj : L[(j : Nat)]? = some (some (.int x))) (k : sd_W D H0 p l e R s m args below meth c t u0 Q σ (pc + 1) L (.int x :: st)) : sd_W D H0 p l e R s m args below meth c t u0 Q σ pc L st :=
  fun H locs ls hH hl hL => lv_iload_n C.1 C.2.1 d rfl (hL.at hj) (k H locs ls hH hl hL)
theorem sp_iload (C : sd_CX G D H0 p l R s m args meth c t) {j : Nat} {x : Int32} (d : sd_at t pc (.iload j) 2) (hj : L[j]? = some (some (.int x))) (k : sd_W D H0 p l e R s m args below meth c t u0 Q σ (pc + 2) L (.int x :: st)) : sd_W D H0 p l e R s m args below meth c t u0 Q σ pc L st :=
  fun H locs ls hH hl hL => lv_iload C.1 C.2.1 d (hL.at hj) (k H locs ls hH hl hL)
theorem sp_lload_n (C : sd_CX G D H0 p l R s m args meth c t) {j : Fin 4} {x : Int64} (d : sd_at t pc (.lload_n j) 1) (hj : L[(j : Nat)]? = some (some (.long x))) (k : sd_W D H0 p l e R s m args below meth c t u0 Q σ (pc + 1) L (.long x :: st)) : sd_W D H0 p l e R s m args below meth c t u0 Q σ pc L st :=
  fun H locs ls hH hl hL => lv_lload_n C.1 C.2.1 d rfl (hL.at hj) (k H locs ls hH hl hL)
theorem sp_lload (C : sd_CX G D H0 p l R s m args meth c t) {j : Nat} {x : Int64} (d : sd_at t pc (.lload j) 2) (hj : L[j]? = some (some (.long x))) (k : sd_W D H0 p l e R s m args below meth c t u0 Q σ (pc + 2) L (.long x :: st)) : sd_W D H0 p l e R s m args below meth c t u0 Q σ pc L st :=
  fun H locs ls hH hl hL => lv_lload C.1 C.2.1 d (hL.at hj) (k H locs ls hH hl hL)
theorem sp_dload_n (C : sd_CX G D H0 p l R s m args meth c t) {j : Fin 4} {x : UInt64} (d : sd_at t pc (.dload_n j) 1) (hj : L[(j : Nat)]? = some (some (.double x))) (k : sd_W D H0 p l e R s m args below meth c t u0 Q σ (pc + 1) L (.double x :: st)) : sd_W D H0 p l e R s m args below meth c t u0 Q σ pc L st :=
  fun H locs ls hH hl hL => lv_dload_n C.1 C.2.1 d rfl (hL.at hj) (k H locs ls hH hl hL)
theorem sp_dload (C : sd_CX G D H0 p l R s m args meth c t) {j : Nat} {x : UInt64} (d : sd_at t pc (.dload j) 2) (hj : L[j]? = some (some (.double x))) (k : sd_W D H0 p l e R s m args below meth c t u0 Q σ (pc + 2) L (.double x :: st)) : sd_W D H0 p l e R s m args below meth c t u0 Q σ pc L st :=
  fun H locs ls hH hl hL => lv_dload C.1 C.2.1 d (hL.at hj) (k H locs ls hH hl hL)
theorem sp_aload_n (C : sd_CX G D H0 p l R s m args meth c t) {j : Fin 4} {x : Nat} (d : sd_at t pc (.aload_n j) 1) (hj : L[(j : Nat)]? = some (some (.ref x))) (k : sd_W D H0 p l e R s m args below meth c t u0 Q σ (pc + 1) L (.ref x :: st)) : sd_W D H0 p l e R s m args below meth c t u0 Q σ pc L st :=
  fun H locs ls hH hl hL => lv_aload_n C.1 C.2.1 d rfl (hL.at hj) (k H locs ls hH hl hL)
theorem sp_aload (C : sd_CX G D H0 p l R s m args meth c t) {j : Nat} {x : Nat} (d : sd_at t pc (.aload j) 2) (hj : L[j]? = some (some (.ref x))) (k : sd_W D H0 p l e R s m args below meth c t u0 Q σ (pc + 2) L (.ref x :: st)) : sd_W D H0 p l e R s m args below meth c t u0 Q σ pc L st :=
  fun H locs ls hH hl hL => lv_aload C.1 C.2.1 d (hL.at hj) (k H locs ls hH hl hL)
theorem sp_aload_nN (C : sd_CX G D H0 p l R s m args meth c t) {j : Fin 4} (d : sd_at t pc (.aload_n j) 1) (hj : L[(j : Nat)]? = some (some (.null))) (k : sd_W D H0 p l e R s m args below meth c t u0 Q σ (pc + 1) L (.null :: st)) : sd_W D H0 p l e R s m args below meth c t u0 Q σ pc L st :=
  fun H locs ls hH hl hL => lv_aload_nN C.1 C.2.1 d rfl (hL.at hj) (k H locs ls hH hl hL)
theorem sp_aloadN (C : sd_CX G D H0 p l R s m args meth c t) {j : Nat} (d : sd_at t pc (.aload j) 2) (hj : L[j]? = some (some (.null))) (k : sd_W D H0 p l e R s m args below meth c t u0 Q σ (pc + 2) L (.null :: st)) : sd_W D H0 p l e R s m args below meth c t u0 Q σ pc L st :=
  fun H locs ls hH hl hL => lv_aloadN C.1 C.2.1 d (hL.at hj) (k H locs ls hH hl hL)
theorem sp_istore_n (C : sd_CX G D H0 p l R s m args meth c t) {j : Fin 4} {x : Int32} (d : sd_at t pc (.istore_n j) 1) (hj : (j : Nat) < L.length) (k : sd_W D H0 p l e R s m args below meth c t u0 Q σ (pc + 1) (ip_st1 (tb_wide t) L (j : Nat) (.int x)) st) : sd_W D H0 p l e R s m args below meth c t u0 Q σ pc L (.int x :: st) :=
  fun H locs ls hH hl hL => lv_istore_n C.1 C.2.1 d rfl hL.has (by rw [← hL.1]; exact hj) rfl fun ls' h' => k H locs ls' hH hl (hL.st1 rfl h')
theorem sp_istore (C : sd_CX G D H0 p l R s m args meth c t) {j : Nat} {x : Int32} (d : sd_at t pc (.istore j) 2) (hj : j < L.length) (k : sd_W D H0 p l e R s m args below meth c t u0 Q σ (pc + 2) (ip_st1 (tb_wide t) L j (.int x)) st) : sd_W D H0 p l e R s m args below meth c t u0 Q σ pc L (.int x :: st) :=
  fun H locs ls hH hl hL => lv_istore C.1 C.2.1 d hL.has (by rw [← hL.1]; exact hj) rfl fun ls' h' => k H locs ls' hH hl (hL.st1 rfl h')
theorem sp_astore_n (C : sd_CX G D H0 p l R s m args meth c t) {j : Fin 4} {x : Nat} (d : sd_at t pc (.astore_n j) 1) (hj : (j : Nat) < L.length) (k : sd_W D H0 p l e R s m args below meth c t u0 Q σ (pc + 1) (ip_st1 (tb_wide t) L (j : Nat) (.ref x)) st) : sd_W D H0 p l e R s m args below meth c t u0 Q σ pc L (.ref x :: st) :=
  fun H locs ls hH hl hL => lv_astore_n C.1 C.2.1 d rfl hL.has (by rw [← hL.1]; exact hj) rfl fun ls' h' => k H locs ls' hH hl (hL.st1 rfl h')
theorem sp_astore (C : sd_CX G D H0 p l R s m args meth c t) {j : Nat} {x : Nat} (d : sd_at t pc (.astore j) 2) (hj : j < L.length) (k : sd_W D H0 p l e R s m args below meth c t u0 Q σ (pc + 2) (ip_st1 (tb_wide t) L j (.ref x)) st) : sd_W D H0 p l e R s m args below meth c t u0 Q σ pc L (.ref x :: st) :=
  fun H locs ls hH hl hL => lv_astore C.1 C.2.1 d hL.has (by rw [← hL.1]; exact hj) rfl fun ls' h' => k H locs ls' hH hl (hL.st1 rfl h')
theorem sp_astore_nN (C : sd_CX G D H0 p l R s m args meth c t) {j : Fin 4} (d : sd_at t pc (.astore_n j) 1) (hj : (j : Nat) < L.length) (k : sd_W D H0 p l e R s m args below meth c t u0 Q σ (pc + 1) (ip_st1 (tb_wide t) L (j : Nat) (.null)) st) : sd_W D H0 p l e R s m args below meth c t u0 Q σ pc L (.null :: st) :=
  fun H locs ls hH hl hL => lv_astore_nN C.1 C.2.1 d rfl hL.has (by rw [← hL.1]; exact hj) rfl fun ls' h' => k H locs ls' hH hl (hL.st1 rfl h')
theorem sp_astoreN (C : sd_CX G D H0 p l R s m args meth c t) {j : Nat} (d : sd_at t pc (.astore j) 2) (hj : j < L.length) (k : sd_W D H0 p l e R s m args below meth c t u0 Q σ (pc + 2) (ip_st1 (tb_wide t) L j (.null)) st) : sd_W D H0 p l e R s m args below meth c t u0 Q σ pc L (.null :: st) :=
  fun H locs ls hH hl hL => lv_astoreN C.1 C.2.1 d hL.has (by rw [← hL.1]; exact hj) rfl fun ls' h' => k H locs ls' hH hl (hL.st1 rfl h')
theorem sp_lstore_n (C : sd_CX G D H0 p l R s m args meth c t) {j : Fin 4} {x : Int64} (d : sd_at t pc (.lstore_n j) 1) (hj : (j : Nat) + 1 < L.length ∧ (tb_wide t).contains (j : Nat) = true) (k : sd_W D H0 p l e R s m args below meth c t u0 Q σ (pc + 1) (ip_st2 (tb_wide t) L (j : Nat) (.long x)) st) : sd_W D H0 p l e R s m args below meth c t u0 Q σ pc L (.long x :: st) :=
  fun H locs ls hH hl hL => lv_lstore_n C.1 C.2.1 d rfl hL.has (by rw [← hL.1]; exact hj.1) rfl fun ls' h' => k H locs ls' hH hl (hL.st2 hj.2 h')
theorem sp_lstore (C : sd_CX G D H0 p l R s m args meth c t) {j : Nat} {x : Int64} (d : sd_at t pc (.lstore j) 2) (hj : j + 1 < L.length ∧ (tb_wide t).contains j = true) (k : sd_W D H0 p l e R s m args below meth c t u0 Q σ (pc + 2) (ip_st2 (tb_wide t) L j (.long x)) st) : sd_W D H0 p l e R s m args below meth c t u0 Q σ pc L (.long x :: st) :=
  fun H locs ls hH hl hL => lv_lstore C.1 C.2.1 d hL.has (by rw [← hL.1]; exact hj.1) rfl fun ls' h' => k H locs ls' hH hl (hL.st2 hj.2 h')
theorem sp_dstore (C : sd_CX G D H0 p l R s m args meth c t) {j : Nat} {x : UInt64} (d : sd_at t pc (.dstore j) 2) (hj : j + 1 < L.length ∧ (tb_wide t).contains j = true) (k : sd_W D H0 p l e R s m args below meth c t u0 Q σ (pc + 2) (ip_st2 (tb_wide t) L j (.double x)) st) : sd_W D H0 p l e R s m args below meth c t u0 Q σ pc L (.double x :: st) :=
  fun H locs ls hH hl hL => lv_dstore C.1 C.2.1 d hL.has (by rw [← hL.1]; exact hj.1) rfl fun ls' h' => k H locs ls' hH hl (hL.st2 hj.2 h')
theorem sp_iinc (C : sd_CX G D H0 p l R s m args meth c t) {j : Nat} {n : Int} {x : Int32} (d : sd_at t pc (.iinc j n) 3) (hj : L[j]? = some (some (.int x))) (k : sd_W D H0 p l e R s m args below meth c t u0 Q σ (pc + 3) (ip_st1 (tb_wide t) L j (.int (x + Int32.ofInt n))) st) : sd_W D H0 p l e R s m args below meth c t u0 Q σ pc L st := by
  intro H locs ls hH hl hL
  obtain ⟨q, hq⟩ := List.getElem?_of_mem (sd_as_mem (q := (j, .int x)) |>.mpr hj)
  exact lv_iinc C.1 C.2.1 d hL.has hq rfl (by rw [← hL.1]; exact (List.getElem?_eq_some_iff.mp hj).1) rfl fun ls' h' => k H locs ls' hH hl (hL.st1 rfl h')
theorem sp_iadd (C : sd_CX G D H0 p l R s m args meth c t) {x y : Int32} (d : sd_at t pc (.iadd) 1) (k : sd_W D H0 p l e R s m args below meth c t u0 Q σ (pc + 1) L (.int (x + y) :: st)) : sd_W D H0 p l e R s m args below meth c t u0 Q σ pc L (.int y :: .int x :: st) :=
  fun H locs ls hH hl hL => lv_iadd C.1 C.2.1 d (k H locs ls hH hl hL)
theorem sp_isub (C : sd_CX G D H0 p l R s m args meth c t) {x y : Int32} (d : sd_at t pc (.isub) 1) (k : sd_W D H0 p l e R s m args below meth c t u0 Q σ (pc + 1) L (.int (x - y) :: st)) : sd_W D H0 p l e R s m args below meth c t u0 Q σ pc L (.int y :: .int x :: st) :=
  fun H locs ls hH hl hL => lv_isub C.1 C.2.1 d (k H locs ls hH hl hL)
theorem sp_imul (C : sd_CX G D H0 p l R s m args meth c t) {x y : Int32} (d : sd_at t pc (.imul) 1) (k : sd_W D H0 p l e R s m args below meth c t u0 Q σ (pc + 1) L (.int (x * y) :: st)) : sd_W D H0 p l e R s m args below meth c t u0 Q σ pc L (.int y :: .int x :: st) :=
  fun H locs ls hH hl hL => lv_imul C.1 C.2.1 d (k H locs ls hH hl hL)
theorem sp_iand (C : sd_CX G D H0 p l R s m args meth c t) {x y : Int32} (d : sd_at t pc (.iand) 1) (k : sd_W D H0 p l e R s m args below meth c t u0 Q σ (pc + 1) L (.int (x &&& y) :: st)) : sd_W D H0 p l e R s m args below meth c t u0 Q σ pc L (.int y :: .int x :: st) :=
  fun H locs ls hH hl hL => lv_iand C.1 C.2.1 d (k H locs ls hH hl hL)
theorem sp_ior (C : sd_CX G D H0 p l R s m args meth c t) {x y : Int32} (d : sd_at t pc (.ior) 1) (k : sd_W D H0 p l e R s m args below meth c t u0 Q σ (pc + 1) L (.int (x ||| y) :: st)) : sd_W D H0 p l e R s m args below meth c t u0 Q σ pc L (.int y :: .int x :: st) :=
  fun H locs ls hH hl hL => lv_ior C.1 C.2.1 d (k H locs ls hH hl hL)
theorem sp_ishl (C : sd_CX G D H0 p l R s m args meth c t) {x y : Int32} (d : sd_at t pc (.ishl) 1) (k : sd_W D H0 p l e R s m args below meth c t u0 Q σ (pc + 1) L (.int (x <<< (y &&& 31)) :: st)) : sd_W D H0 p l e R s m args below meth c t u0 Q σ pc L (.int y :: .int x :: st) :=
  fun H locs ls hH hl hL => lv_ishl C.1 C.2.1 d (k H locs ls hH hl hL)
theorem sp_ishr (C : sd_CX G D H0 p l R s m args meth c t) {x y : Int32} (d : sd_at t pc (.ishr) 1) (k : sd_W D H0 p l e R s m args below meth c t u0 Q σ (pc + 1) L (.int (x >>> (y &&& 31)) :: st)) : sd_W D H0 p l e R s m args below meth c t u0 Q σ pc L (.int y :: .int x :: st) :=
  fun H locs ls hH hl hL => lv_ishr C.1 C.2.1 d (k H locs ls hH hl hL)
theorem sp_iushr (C : sd_CX G D H0 p l R s m args meth c t) {x y : Int32} (d : sd_at t pc (.iushr) 1) (k : sd_W D H0 p l e R s m args below meth c t u0 Q σ (pc + 1) L (.int (x.toUInt32 >>> (y.toUInt32 &&& Int32.toUInt32 31)).toInt32 :: st)) : sd_W D H0 p l e R s m args below meth c t u0 Q σ pc L (.int y :: .int x :: st) :=
  fun H locs ls hH hl hL => lv_iushr C.1 C.2.1 d rfl (k H locs ls hH hl hL)
theorem sp_idiv (C : sd_CX G D H0 p l R s m args meth c t) {x y : Int32} (d : sd_at t pc (.idiv) 1) (hy : ¬ y = 0) (k : sd_W D H0 p l e R s m args below meth c t u0 Q σ (pc + 1) L (.int (x / y) :: st)) : sd_W D H0 p l e R s m args below meth c t u0 Q σ pc L (.int y :: .int x :: st) :=
  fun H locs ls hH hl hL => lv_idiv C.1 C.2.1 d hy (k H locs ls hH hl hL)
theorem sp_irem (C : sd_CX G D H0 p l R s m args meth c t) {x y : Int32} (d : sd_at t pc (.irem) 1) (hy : ¬ y = 0) (k : sd_W D H0 p l e R s m args below meth c t u0 Q σ (pc + 1) L (.int (x - x / y * y) :: st)) : sd_W D H0 p l e R s m args below meth c t u0 Q σ pc L (.int y :: .int x :: st) :=
  fun H locs ls hH hl hL => lv_irem C.1 C.2.1 d hy (k H locs ls hH hl hL)
theorem sp_ineg (C : sd_CX G D H0 p l R s m args meth c t) {x : Int32} (d : sd_at t pc (.ineg) 1) (k : sd_W D H0 p l e R s m args below meth c t u0 Q σ (pc + 1) L (.int (-x) :: st)) : sd_W D H0 p l e R s m args below meth c t u0 Q σ pc L (.int x :: st) :=
  fun H locs ls hH hl hL => lv_ineg C.1 C.2.1 d (k H locs ls hH hl hL)
theorem sp_i2b (C : sd_CX G D H0 p l R s m args meth c t) {x : Int32} (d : sd_at t pc (.i2b) 1) (k : sd_W D H0 p l e R s m args below meth c t u0 Q σ (pc + 1) L (.int x.toInt8.toInt32 :: st)) : sd_W D H0 p l e R s m args below meth c t u0 Q σ pc L (.int x :: st) :=
  fun H locs ls hH hl hL => lv_i2b C.1 C.2.1 d rfl (k H locs ls hH hl hL)
theorem sp_i2c (C : sd_CX G D H0 p l R s m args meth c t) {x : Int32} (d : sd_at t pc (.i2c) 1) (k : sd_W D H0 p l e R s m args below meth c t u0 Q σ (pc + 1) L (.int (x.toUInt32 % 65536).toInt32 :: st)) : sd_W D H0 p l e R s m args below meth c t u0 Q σ pc L (.int x :: st) :=
  fun H locs ls hH hl hL => lv_i2c C.1 C.2.1 d rfl (k H locs ls hH hl hL)
theorem sp_i2l (C : sd_CX G D H0 p l R s m args meth c t) {x : Int32} (d : sd_at t pc (.i2l) 1) (k : sd_W D H0 p l e R s m args below meth c t u0 Q σ (pc + 1) L (.long x.toInt64 :: st)) : sd_W D H0 p l e R s m args below meth c t u0 Q σ pc L (.int x :: st) :=
  fun H locs ls hH hl hL => lv_i2l C.1 C.2.1 d rfl (k H locs ls hH hl hL)
theorem sp_i2d (C : sd_CX G D H0 p l R s m args meth c t) {x : Int32} (d : sd_at t pc (.i2d) 1) (k : sd_W D H0 p l e R s m args below meth c t u0 Q σ (pc + 1) L (.double (FP.i2d x) :: st)) : sd_W D H0 p l e R s m args below meth c t u0 Q σ pc L (.int x :: st) :=
  fun H locs ls hH hl hL => lv_i2d C.1 C.2.1 d (k H locs ls hH hl hL)
theorem sp_l2i (C : sd_CX G D H0 p l R s m args meth c t) {x : Int64} (d : sd_at t pc (.l2i) 1) (k : sd_W D H0 p l e R s m args below meth c t u0 Q σ (pc + 1) L (.int x.toInt32 :: st)) : sd_W D H0 p l e R s m args below meth c t u0 Q σ pc L (.long x :: st) :=
  fun H locs ls hH hl hL => lv_l2i C.1 C.2.1 d rfl (k H locs ls hH hl hL)
theorem sp_ladd (C : sd_CX G D H0 p l R s m args meth c t) {x y : Int64} (d : sd_at t pc (.ladd) 1) (k : sd_W D H0 p l e R s m args below meth c t u0 Q σ (pc + 1) L (.long (x + y) :: st)) : sd_W D H0 p l e R s m args below meth c t u0 Q σ pc L (.long y :: .long x :: st) :=
  fun H locs ls hH hl hL => lv_ladd C.1 C.2.1 d (k H locs ls hH hl hL)
theorem sp_lmul (C : sd_CX G D H0 p l R s m args meth c t) {x y : Int64} (d : sd_at t pc (.lmul) 1) (k : sd_W D H0 p l e R s m args below meth c t u0 Q σ (pc + 1) L (.long (x * y) :: st)) : sd_W D H0 p l e R s m args below meth c t u0 Q σ pc L (.long y :: .long x :: st) :=
  fun H locs ls hH hl hL => lv_lmul C.1 C.2.1 d (k H locs ls hH hl hL)
theorem sp_lcmp (C : sd_CX G D H0 p l R s m args meth c t) {x y : Int64} (d : sd_at t pc (.lcmp) 1) (k : sd_W D H0 p l e R s m args below meth c t u0 Q σ (pc + 1) L (.int (lg_cmp x y) :: st)) : sd_W D H0 p l e R s m args below meth c t u0 Q σ pc L (.long y :: .long x :: st) :=
  fun H locs ls hH hl hL => W.lcmp C.1 C.2.1 d (k H locs ls hH hl hL)
theorem sp_dcmp (C : sd_CX G D H0 p l R s m args meth c t) {x y : UInt64} {op : CmpOp} (d : sd_at t pc (.dcmp op) 1) (k : sd_W D H0 p l e R s m args below meth c t u0 Q σ (pc + 1) L (.int (Op.cmpValue (FP.dcmp x y) op) :: st)) : sd_W D H0 p l e R s m args below meth c t u0 Q σ pc L (.double y :: .double x :: st) :=
  fun H locs ls hH hl hL => lv_dcmp C.1 C.2.1 d (k H locs ls hH hl hL)
theorem sp_ddiv (C : sd_CX G D H0 p l R s m args meth c t) {x y : UInt64} (d : sd_at t pc (.ddiv) 1) (hy : vf_n64 (FP.ddiv x y)) (k : sd_W D H0 p l e R s m args below meth c t u0 Q σ (pc + 1) L (.double (FP.ddiv x y) :: st)) : sd_W D H0 p l e R s m args below meth c t u0 Q σ pc L (.double y :: .double x :: st) :=
  fun H locs ls hH hl hL => lv_ddiv C.1 C.2.1 d hy (k H locs ls hH hl hL)
theorem sp_dup (C : sd_CX G D H0 p l R s m args meth c t) {v : Value} (d : sd_at t pc (.dup) 1) (hv : v.category = 1) (k : sd_W D H0 p l e R s m args below meth c t u0 Q σ (pc + 1) L (v :: v :: st)) : sd_W D H0 p l e R s m args below meth c t u0 Q σ pc L (v :: st) :=
  fun H locs ls hH hl hL => lv_dup C.1 C.2.1 d hv (k H locs ls hH hl hL)
theorem sp_pop (C : sd_CX G D H0 p l R s m args meth c t) {v : Value} (d : sd_at t pc (.pop) 1) (hv : v.category = 1) (k : sd_W D H0 p l e R s m args below meth c t u0 Q σ (pc + 1) L st) : sd_W D H0 p l e R s m args below meth c t u0 Q σ pc L (v :: st) :=
  fun H locs ls hH hl hL => lv_pop C.1 C.2.1 d hv (k H locs ls hH hl hL)
theorem sp_dup_x1 (C : sd_CX G D H0 p l R s m args meth c t) {v w : Value} (d : sd_at t pc (.dup_x1) 1) (hv : v.category = 1) (hw : w.category = 1) (k : sd_W D H0 p l e R s m args below meth c t u0 Q σ (pc + 1) L (v :: w :: v :: st)) : sd_W D H0 p l e R s m args below meth c t u0 Q σ pc L (v :: w :: st) :=
  fun H locs ls hH hl hL => lv_dup_x1 C.1 C.2.1 d hv hw (k H locs ls hH hl hL)
theorem sp_dup2 (C : sd_CX G D H0 p l R s m args meth c t) {v w : Value} (d : sd_at t pc (.dup2) 1) (hv : v.category = 1) (hw : w.category = 1) (k : sd_W D H0 p l e R s m args below meth c t u0 Q σ (pc + 1) L (v :: w :: v :: w :: st)) : sd_W D H0 p l e R s m args below meth c t u0 Q σ pc L (v :: w :: st) :=
  fun H locs ls hH hl hL => lv_dup2_11 C.1 C.2.1 d hv hw (k H locs ls hH hl hL)
theorem sp_goto (C : sd_CX G D H0 p l R s m args meth c t) {off : Int} {tgt : Nat} (d : sd_at t pc (.goto off) 3) (ht : (pc : Int) + off = (tgt : Int)) (k : sd_W D H0 p l e R s m args below meth c t u0 Q σ tgt L st) : sd_W D H0 p l e R s m args below meth c t u0 Q σ pc L st :=
  fun H locs ls hH hl hL => lv_goto C.1 C.2.1 d ht (k H locs ls hH hl hL)
theorem sp_if (C : sd_CX G D H0 p l R s m args meth c t) {cd : Jvm.ClassFile.Cond} {x : Int32} {off : Int} {tgt : Nat} (d : sd_at t pc (.ifCond cd off) 3) (ht : (pc : Int) + off = (tgt : Int)) (k : sd_W D H0 p l e R s m args below meth c t u0 Q σ (if ip_cc cd x 0 = true then tgt else pc + 3) L st) : sd_W D H0 p l e R s m args below meth c t u0 Q σ pc L (.int x :: st) := by
  intro H locs ls hH hl hL
  have k1 := k H locs ls hH hl hL
  cases cd
  · refine lv_if_eq C.1 C.2.1 d ht (fun h => ?_) (fun h => ?_)
    · rw [if_pos (by simp only [ip_cc, decide_eq_true_eq]; exact h)] at k1; exact k1
    · rw [if_neg (by simp only [ip_cc, decide_eq_true_eq]; first | exact h | exact fun g => g h)] at k1; exact k1
  · refine lv_if_ne C.1 C.2.1 d ht (fun h => ?_) (fun h => ?_)
    · rw [if_pos (by simp only [ip_cc, decide_eq_true_eq]; exact h)] at k1; exact k1
    · rw [if_neg (by simp only [ip_cc, decide_eq_true_eq]; first | exact h | exact fun g => g h)] at k1; exact k1
  · refine lv_if_lt C.1 C.2.1 d ht (fun h => ?_) (fun h => ?_)
    · rw [if_pos (by simp only [ip_cc, decide_eq_true_eq]; exact h)] at k1; exact k1
    · rw [if_neg (by simp only [ip_cc, decide_eq_true_eq]; first | exact h | exact fun g => g h)] at k1; exact k1
  · refine lv_if_ge C.1 C.2.1 d ht (fun h => ?_) (fun h => ?_)
    · rw [if_pos (by simp only [ip_cc, decide_eq_true_eq]; exact h)] at k1; exact k1
    · rw [if_neg (by simp only [ip_cc, decide_eq_true_eq]; first | exact h | exact fun g => g h)] at k1; exact k1
  · refine lv_if_gt C.1 C.2.1 d ht (fun h => ?_) (fun h => ?_)
    · rw [if_pos (by simp only [ip_cc, decide_eq_true_eq]; exact h)] at k1; exact k1
    · rw [if_neg (by simp only [ip_cc, decide_eq_true_eq]; first | exact h | exact fun g => g h)] at k1; exact k1
  · refine lv_if_le C.1 C.2.1 d ht (fun h => ?_) (fun h => ?_)
    · rw [if_pos (by simp only [ip_cc, decide_eq_true_eq]; exact h)] at k1; exact k1
    · rw [if_neg (by simp only [ip_cc, decide_eq_true_eq]; first | exact h | exact fun g => g h)] at k1; exact k1
theorem sp_icmp (C : sd_CX G D H0 p l R s m args meth c t) {cd : Jvm.ClassFile.Cond} {x y : Int32} {off : Int} {tgt : Nat} (d : sd_at t pc (.if_icmp cd off) 3) (ht : (pc : Int) + off = (tgt : Int)) (k : sd_W D H0 p l e R s m args below meth c t u0 Q σ (if ip_cc cd x y = true then tgt else pc + 3) L st) : sd_W D H0 p l e R s m args below meth c t u0 Q σ pc L (.int y :: .int x :: st) := by
  intro H locs ls hH hl hL
  have k1 := k H locs ls hH hl hL
  cases cd
  · refine lv_icmp_eq C.1 C.2.1 d ht (fun h => ?_) (fun h => ?_)
    · rw [if_pos (by simp only [ip_cc, decide_eq_true_eq]; exact h)] at k1; exact k1
    · rw [if_neg (by simp only [ip_cc, decide_eq_true_eq]; first | exact h | exact fun g => g h)] at k1; exact k1
  · refine lv_icmp_ne C.1 C.2.1 d ht (fun h => ?_) (fun h => ?_)
    · rw [if_pos (by simp only [ip_cc, decide_eq_true_eq]; exact h)] at k1; exact k1
    · rw [if_neg (by simp only [ip_cc, decide_eq_true_eq]; first | exact h | exact fun g => g h)] at k1; exact k1
  · refine lv_icmp_lt C.1 C.2.1 d ht (fun h => ?_) (fun h => ?_)
    · rw [if_pos (by simp only [ip_cc, decide_eq_true_eq]; exact h)] at k1; exact k1
    · rw [if_neg (by simp only [ip_cc, decide_eq_true_eq]; first | exact h | exact fun g => g h)] at k1; exact k1
  · refine lv_icmp_ge C.1 C.2.1 d ht (fun h => ?_) (fun h => ?_)
    · rw [if_pos (by simp only [ip_cc, decide_eq_true_eq]; exact h)] at k1; exact k1
    · rw [if_neg (by simp only [ip_cc, decide_eq_true_eq]; first | exact h | exact fun g => g h)] at k1; exact k1
  · refine lv_icmp_gt C.1 C.2.1 d ht (fun h => ?_) (fun h => ?_)
    · rw [if_pos (by simp only [ip_cc, decide_eq_true_eq]; exact h)] at k1; exact k1
    · rw [if_neg (by simp only [ip_cc, decide_eq_true_eq]; first | exact h | exact fun g => g h)] at k1; exact k1
  · refine lv_icmp_le C.1 C.2.1 d ht (fun h => ?_) (fun h => ?_)
    · rw [if_pos (by simp only [ip_cc, decide_eq_true_eq]; exact h)] at k1; exact k1
    · rw [if_neg (by simp only [ip_cc, decide_eq_true_eq]; first | exact h | exact fun g => g h)] at k1; exact k1
theorem ip_isA_rf {v : Value} (h : ip_isA v = true) : ∃ r : Option Nat, v = va_rf r := by
  cases v with
  | ref a => exact ⟨some a, rfl⟩
  | null => exact ⟨none, rfl⟩
  | _ => simp [ip_isA] at h
theorem va_rf_inj {r q : Option Nat} : va_rf r = va_rf q ↔ r = q := by
  cases r <;> cases q <;> simp [va_rf]
theorem sp_acmp (C : sd_CX G D H0 p l R s m args meth c t) {cd : ACond} {x y : Value} {off : Int} {tgt : Nat} (d : sd_at t pc (.if_acmp cd off) 3) (hx : ip_isA x = true) (hy : ip_isA y = true) (ht : (pc : Int) + off = (tgt : Int)) (k : sd_W D H0 p l e R s m args below meth c t u0 Q σ (if ip_ac cd x y = true then tgt else pc + 3) L st) : sd_W D H0 p l e R s m args below meth c t u0 Q σ pc L (y :: x :: st) := by
  obtain ⟨rx, rfl⟩ := ip_isA_rf hx
  obtain ⟨ry, rfl⟩ := ip_isA_rf hy
  intro H locs ls hH hl hL
  have k1 := k H locs ls hH hl hL
  cases cd
  · refine lv_acmp_eq C.1 C.2.1 d ht (fun h => ?_) (fun h => ?_)
    · rw [if_pos (by simp only [ip_ac, decide_eq_true_eq]; exact va_rf_inj.mpr h)] at k1; exact k1
    · rw [if_neg (by simp only [ip_ac, decide_eq_true_eq]; exact fun z => h (va_rf_inj.mp z))] at k1; exact k1
  · refine lv_acmp_ne C.1 C.2.1 d ht (fun h => ?_) (fun h => ?_)
    · rw [if_pos (by simp only [ip_ac, decide_eq_true_eq]; exact fun z => h (va_rf_inj.mp z))] at k1; exact k1
    · rw [if_neg (by simp only [ip_ac, decide_eq_true_eq]; exact fun z => z (va_rf_inj.mpr h))] at k1; exact k1
theorem sp_ifnull (C : sd_CX G D H0 p l R s m args meth c t) {v : Value} {off : Int} {tgt : Nat} (d : sd_at t pc (.ifnull off) 3) (ht : (pc : Int) + off = (tgt : Int)) :
    (v = .null → sd_W D H0 p l e R s m args below meth c t u0 Q σ tgt L st → sd_W D H0 p l e R s m args below meth c t u0 Q σ pc L (v :: st)) ∧ (∀ a, v = .ref a → sd_W D H0 p l e R s m args below meth c t u0 Q σ (pc + 3) L st → sd_W D H0 p l e R s m args below meth c t u0 Q σ pc L (v :: st)) := by
  refine ⟨?_, ?_⟩
  · rintro rfl k
    exact fun H locs ls hH hl hL => lv_ifnullN C.1 C.2.1 d ht (k H locs ls hH hl hL)
  · rintro a rfl k
    exact fun H locs ls hH hl hL => lv_ifnull C.1 C.2.1 d (k H locs ls hH hl hL)
theorem sp_ifnonnull (C : sd_CX G D H0 p l R s m args meth c t) {v : Value} {off : Int} {tgt : Nat} (d : sd_at t pc (.ifnonnull off) 3) (ht : (pc : Int) + off = (tgt : Int)) :
    (v = .null → sd_W D H0 p l e R s m args below meth c t u0 Q σ (pc + 3) L st → sd_W D H0 p l e R s m args below meth c t u0 Q σ pc L (v :: st)) ∧ (∀ a, v = .ref a → sd_W D H0 p l e R s m args below meth c t u0 Q σ tgt L st → sd_W D H0 p l e R s m args below meth c t u0 Q σ pc L (v :: st)) := by
  refine ⟨?_, ?_⟩
  · rintro rfl k
    exact fun H locs ls hH hl hL => lv_ifnonnullN C.1 C.2.1 d (k H locs ls hH hl hL)
  · rintro a rfl k
    exact fun H locs ls hH hl hL => lv_ifnonnull C.1 C.2.1 d ht (k H locs ls hH hl hL)
theorem sp_tsw (C : sd_CX G D H0 p l R s m args meth c t) {x : Int32} {dflt lo hi : Int} {offs : Array Int} {len tgt : Nat} {off : Int} (d : sd_at t pc (.tableswitch dflt lo hi offs) len) (ho : (x.toInt < lo ∨ hi < x.toInt) ∧ off = dflt ∨ ¬ (x.toInt < lo ∨ hi < x.toInt) ∧ offs[(x.toInt - lo).toNat]? = some off) (ht : (pc : Int) + off = (tgt : Int)) (k : sd_W D H0 p l e R s m args below meth c t u0 Q σ tgt L st) : sd_W D H0 p l e R s m args below meth c t u0 Q σ pc L (.int x :: st) := by
  intro H locs ls hH hl hL
  rcases ho with ⟨h, rfl⟩ | ⟨h, ho⟩
  · exact lv_tableOut C.1 C.2.1 d h ht (k H locs ls hH hl hL)
  · exact lv_tableIn C.1 C.2.1 d (fun q => h (Or.inl q)) (fun q => h (Or.inr q)) ho ht (k H locs ls hH hl hL)
end Pure
end SD2
