/-! SOUNDNESS, 5: calls. Every callee is a vx_Met; a site says how the words lead to it -/
abbrev mt_ws (t : Nat) : List Cond := mt_w t :: lw_all
def sd_Run (len : Nat) (p : Program) (l : Launch) (e : Env) (R : Room) (s : State) (m : MethodId) (args : Array Value) (below : List Frame) (meth : Method) (c : Code) (H : Heap) (locs : List Loc) (cells slots mc ms : Nat) (g : JFrame) (rest : List Value) (Qa : State → Outcome → State → Prop) (XC : String → State → State → Prop) (free : Addr → Prop) : Prop :=
  ∀ T : State, T.heap = H → Stand p l e R s m args below meth c T locs cells slots →
    (∃ (v : Option Value) (st₀ t T' : State) (L : List Loc), st₀.heap = H ∧ Stand p l e R s m args below meth c T' (locs ++ L) (cells + mc) (slots + ms) ∧ (∀ q ∈ L, free q.base) ∧ T'.heap = t.heap ∧ T'.vm = t.vm ∧ Qa st₀ (.returned v) t ∧
      Goes p e below T g T' { g with pc := g.pc + len, stack := v.toList ++ rest }) ∨
    (∃ (q : Addr) (st₀ t T' : State) (L : List Loc) (E : String) (ce : Cell), st₀.heap = H ∧ Stand p l e R s m args below meth c T' (locs ++ L) (cells + mc) (slots + ms) ∧ (∀ z ∈ L, free z.base) ∧ T'.heap = t.heap ∧ T'.vm = t.vm ∧ XC E st₀ t ∧ t.heap[q]? = some ce ∧ ce.vm = .none ∧ s.vm.findClass E = some ce.cls ∧
      Steps p.tables e below (T.setTop g) ((T'.setTop { g with stack := rest }).pushFrame (.throwing q)))
/-- what every method's words say of it -/
def vd_K (t : Nat) : Prop := plainFor (mt_y t) = true ∧ mt_w t ∈ lw_all ∧ ((mt_y t).cls ≠ "java/lang/invoke/MethodHandle" ∧ (mt_y t).cls ≠ "java/lang/invoke/VarHandle") ∧ (parseMethodDescriptor (mt_y t).desc).map (fun d => d.parameters.length) = some (mt_n t) ∧ Cond.initialized (mt_y t).cls ∈ lw_all
/-- the receiver: an object of a class that P allows -/
def sd_rv (H : Heap) (s : State) (P : Nat → Prop) (As : List Value) : Prop := ∃ (b : Nat) (Bs : List Value) (k : Nat) (r : vw_C) (cell : Cell), As = .ref b :: Bs ∧ P k ∧ sd_cl[k]? = some r ∧ H[b]? = some cell ∧ cell.vm.isStatics = false ∧ s.vm.findClass r.1 = some cell.cls
/-- a call's site: the call of method t, n arguments, by an instruction of length len -/
def vd_I (own : String) (cc : ByteArray) (pc len n t : Nat) (P : Option (Nat → Prop)) : Prop :=
  ∀ (G : Nat → Value) (D : sd_D) (H0 : Heap) (p : Program) (l : Launch) (e : Env) (R : Room) (s : State) (m : MethodId) (args : Array Value) (below : List Frame) (meth : Method) (c : Code) (nL : Nat) (H : Heap) (locs : List Loc) (cells slots mc ms : Nat) (rm : Room) (Pc : Array Value → State → Prop) (Qc : Array Value → State → Outcome → State → Prop) (XC : String → State → State → Prop) (free : Addr → Prop) (As rest : List Value) (ls : Array Slot),
    CallFix p m c cc nL s args lw_all own → sd_K G D H0 s → vx_Met l (mt_y t) (mt_ws t) rm Pc Qc XC mc ms free →
    rm.cells = mc ∧ rm.slots = ms → rm.frames + 1 ≤ R.frames ∧ 8 + (tb_maxl t + 11) + rm.locals ≤ R.locals →
    PreS s H Pc As → As.length = n → (∀ Q, P = some Q → sd_rv H s Q As) →
    ls.size = nL → (rest.map fun v => v.category).sum ≤ 8 → cells + mc ≤ R.cells ∧ slots + ms ≤ R.slots →
    sd_Run len p l e R s m args below meth c H locs cells slots mc ms (F0 m pc ls (As.reverse ++ rest)) rest (Qc As.toArray) XC free
theorem mt_code {t : Nat} (h : mt_h t = []) : mt_ws t = Cond.code (mt_y t) (mt_c t) (tb_maxl t) (tb_ret t) :: lw_all := by
  unfold mt_ws mt_w
  rw [h]
theorem mt_codeW {t : Nat} (h : mt_h t ≠ []) : mt_ws t = Cond.codeWith (mt_y t) (mt_c t) (tb_maxl t) (tb_ret t) (mt_h t) :: lw_all := by
  unfold mt_ws mt_w
  split
  · rename_i e; exact absurd e h
  · rfl
theorem vd_K.ws {t : Nat} (K : vd_K t) : ∀ w ∈ mt_ws t, w ∈ lw_all := fun w hw => by
  rcases List.mem_cons.mp hw with rfl | h
  · exact K.2.1
  · exact h
theorem vd_K.good {t : Nat} (K : vd_K t) {l : List Cond} (h : ∀ w ∈ l, w ∈ lw_all) : GoodIn lw_all (l ++ mt_ws t) := lw_good fun w hw => by
  rcases List.mem_append.mp hw with h1 | h1
  · exact h w h1
  · exact K.ws w h1
/-- receivers -/
theorem sd_rv.pre {H : Heap} {s : State} {P : Nat → Prop} {As : List Value} {Pc : Array Value → State → Prop} (h : sd_rv H s P As) (hP : PreS s H Pc As) : ∃ (b : Nat) (Bs : List Value) (k : Nat) (r : vw_C), As = .ref b :: Bs ∧ P k ∧ sd_cl[k]? = some r ∧ PreV s H r.1 b Pc Bs := by
  obtain ⟨b, Bs, k, r, cell, rfl, h1, h2, h3, h4, h5⟩ := h
  exact ⟨b, Bs, k, r, rfl, h1, h2, hP.1, ⟨cell, h3, h4, h5⟩, hP.2⟩
theorem rv_stack (b : Nat) (Bs rest : List Value) : (Value.ref b :: Bs).reverse ++ rest = Bs.reverse ++ .ref b :: rest := by simp
section VI
variable {own : String} {cc : ByteArray} {pc t idx : Nat}
theorem vi_S (K : vd_K t) (h0 : mt_h t = []) (h1 : Cond.methodLink own idx (mt_y t) ∈ lw_all) (h2 : Cond.static (mt_y t) ∈ lw_all) (d : decode cc pc = .ok (.invokestatic idx, 3)) : vd_I own cc pc 3 (mt_n t) t none := by
  intro G D H0 p l e R s m args below meth c nL H locs cells slots mc ms rm Pc Qc XC free As rest ls S hK hM hr hf hP hn hv hls hW hcs
  exact vx_runS S hM (va_cwS (mt_n t) S.2.2.2.2 (K.good (l := [.methodLink own idx (mt_y t), .static (mt_y t), .initialized (mt_y t).cls]) (by intro w hw; simp only [List.mem_cons, List.not_mem_nil, or_false] at hw; rcases hw with rfl | rfl | rfl; exact h1; exact h2; exact K.2.2.2.2)) (mt_code h0) hr.1 hr.2 ⟨K.2.2.1.1, K.2.2.1.2, K.2.2.2.1⟩ hf) hP rfl hn hls rfl (by show 2 * 0 + _ ≤ _; omega) d hcs
theorem vi_SW (K : vd_K t) (h0 : mt_h t ≠ []) (h1 : Cond.methodLink own idx (mt_y t) ∈ lw_all) (h2 : Cond.static (mt_y t) ∈ lw_all) (d : decode cc pc = .ok (.invokestatic idx, 3)) : vd_I own cc pc 3 (mt_n t) t none := by
  intro G D H0 p l e R s m args below meth c nL H locs cells slots mc ms rm Pc Qc XC free As rest ls S hK hM hr hf hP hn hv hls hW hcs
  exact vx_runSX S hM (vx_cwSW (mt_n t) S.2.2.2.2 (K.good (l := [.methodLink own idx (mt_y t), .static (mt_y t), .initialized (mt_y t).cls]) (by intro w hw; simp only [List.mem_cons, List.not_mem_nil, or_false] at hw; rcases hw with rfl | rfl | rfl; exact h1; exact h2; exact K.2.2.2.2)) (mt_codeW h0) hr.1 hr.2 ⟨K.2.2.1.1, K.2.2.1.2, K.2.2.2.1⟩ hf) hP rfl hn hls rfl (by show 2 * 0 + _ ≤ _; omega) d hcs
theorem vi_I (K : vd_K t) (h0 : mt_h t = []) (hn0 : tb_ret t = none ∧ (mt_y t).name = "<init>") (h1 : Cond.methodLink own idx (mt_y t) ∈ lw_all) (h2 : Cond.instanceMethod (mt_y t) ∈ lw_all) (d : decode cc pc = .ok (.invokespecial idx, 3)) : vd_I own cc pc 3 (mt_n t + 1) t (some fun _ => True) := by
  intro G D H0 p l e R s m args below meth c nL H locs cells slots mc ms rm Pc Qc XC free As rest ls S hK hM hr hf hP hn hv hls hW hcs
  obtain ⟨b, Bs, k, r, cell, rfl, -⟩ := hv _ rfl
  have hw := mt_code h0
  rw [hn0.1] at hw
  rw [rv_stack]
  exact vx_runI S hM ⟨callB_of (mt_n t) S.2.2.2.2 (lw_good K.ws) hw hr.1 hr.2 (S.2.2.2.2 _ K.2.2.2.2) (S.2.2.2.2 _ h1) ⟨K.2.2.1.1, K.2.2.1.2, K.2.2.2.1⟩ hf, hn0.2, S.2.2.2.2 _ h2⟩ hP rfl (Nat.succ.inj hn) hls rfl (by show 2 * 0 + _ ≤ _; omega) d hcs
theorem vi_IN {host : String} (K : vd_K t) (h0 : mt_h t = []) (hn0 : tb_ret t = none ∧ (mt_y t).name = "<init>") (h1 : Cond.methodLinkNest own idx (mt_y t) host ∈ lw_tbl) (h2 : Cond.instanceMethod (mt_y t) ∈ lw_all) (d : decode cc pc = .ok (.invokespecial idx, 3)) : vd_I own cc pc 3 (mt_n t + 1) t (some fun _ => True) := by
  intro G D H0 p l e R s m args below meth c nL H locs cells slots mc ms rm Pc Qc XC free As rest ls S hK hM hr hf hP hn hv hls hW hcs
  obtain ⟨b, Bs, k, r, cell, rfl, -⟩ := hv _ rfl
  have hw := mt_code h0
  rw [hn0.1] at hw
  rw [rv_stack]
  exact vx_runIN S hM ⟨va_cnB (mt_n t) S.2.2.2.2 (lw_good K.ws) hw hr.1 hr.2 (hK.2.2.1 _ h1 rfl) (S.2.2.2.2 _ K.2.2.2.2) ⟨K.2.2.1.1, K.2.2.1.2, K.2.2.2.1⟩ hf, hn0.2, S.2.2.2.2 _ h2⟩ hP rfl (Nat.succ.inj hn) hls rfl (by show 2 * 0 + _ ≤ _; omega) d hcs
/-- the class number k is the one named C -/
def vd_Cn (k : Nat) (C : String) : Prop := ∃ (T : u_T) (N : Nat), sd_cl[k]? = some (C, T, N)
theorem vi_V {k : Nat} (K : vd_K t) (h0 : mt_h t = []) (hC : vd_Cn k (mt_y t).cls) (h1 : Cond.methodLink own idx (mt_y t) ∈ lw_all) (h2 : Cond.instanceMethod (mt_y t) ∈ lw_all) (h3 : Cond.selects (mt_y t).cls (mt_y t) (mt_y t) ∈ lw_all) (d : decode cc pc = .ok (.invokevirtual idx, 3)) : vd_I own cc pc 3 (mt_n t + 1) t (some fun q => q = k) := by
  intro G D H0 p l e R s m args below meth c nL H locs cells slots mc ms rm Pc Qc XC free As rest ls S hK hM hr hf hP hn hv hls hW hcs
  obtain ⟨b, Bs, k', r, rfl, rfl, hk, hpv⟩ := (hv _ rfl).pre hP
  obtain ⟨T, N, hC⟩ := hC
  cases hk.symm.trans hC
  rw [rv_stack]
  exact vx_runV S hM (cwV (mt_n t) S.2.2.2.2 (K.good (l := [.methodLink own idx (mt_y t), .instanceMethod (mt_y t), .selects (mt_y t).cls (mt_y t) (mt_y t), .initialized (mt_y t).cls]) (by intro w hw; simp only [List.mem_cons, List.not_mem_nil, or_false] at hw; rcases hw with rfl | rfl | rfl | rfl; exact h1; exact h2; exact h3; exact K.2.2.2.2)) (mt_code h0) hr.1 hr.2 ⟨rfl, K.2.2.1.1, K.2.2.1.2, K.2.2.2.1⟩ hf) hpv rfl (Nat.succ.inj hn) hls rfl (by show 2 * 0 + _ ≤ _; omega) d hcs
/-- what the named method is, wherever it is declared -/
theorem vi_U9 {k : Nat} {C owner : String} {x9 : MethodName} (K : vd_K t) (h0 : mt_h t = []) (hC : vd_Cn k C) (hx : x9.desc = (mt_y t).desc) (ho : owner ≠ "java/lang/invoke/MethodHandle" ∧ owner ≠ "java/lang/invoke/VarHandle") (h1 : Cond.methodLink own idx x9 ∈ lw_all) (h2 : Cond.sameMethod x9.cls owner x9.name x9.desc ∈ lw_all) (h3 : Cond.instanceMethod (mt_y t) ∈ lw_all)
    (h4 : ∀ (G : Nat → Value) (D : sd_D) (H0 : Heap) (s : State) (args : Array Value), sd_K G D H0 s → (∀ w ∈ lw_all, w.before args s = true) → va_Decl s ⟨owner, x9.name, x9.desc⟩ ∧ (Cond.selects C x9 (mt_y t)).before args s = true)
    (d : decode cc pc = .ok (.invokevirtual idx, 3)) : vd_I own cc pc 3 (mt_n t + 1) t (some fun q => q = k) := by
  intro G D H0 p l e R s m args below meth c nL H locs cells slots mc ms rm Pc Qc XC free As rest ls S hK hM hr hf hP hn hv hls hW hcs
  obtain ⟨b, Bs, k', r, rfl, rfl, hk, hpv⟩ := (hv _ rfl).pre hP
  obtain ⟨T, N, hC⟩ := hC
  cases hk.symm.trans hC
  rw [rv_stack]
  have ht := S.2.2.2.2
  obtain ⟨g1, g2⟩ := h4 G D H0 s args hK ht
  have hc : Cond.code (mt_y t) (mt_c t) (tb_maxl t) (tb_ret t) ∈ mt_ws t := by rw [mt_code h0]; exact List.mem_cons_self
  exact vx_runU (maxL := tb_maxl t) (ret := tb_ret t) (bytes := mt_c t) (n := mt_n t) S hM ⟨⟨hr.1, hr.2, hf.1, hf.2, pay_in ht (lw_good K.ws), hc⟩, ht _ (K.ws _ hc), ht _ K.2.2.2.2, ho, fun sig h => by
    have h5 := K.2.2.2.1
    rw [← hx, h] at h5
    exact (Option.some.inj h5).symm, ht _ h1, ht _ h2, g1, g2, ht _ h3⟩ hpv rfl (Nat.succ.inj hn) hls rfl (by show 2 * 0 + _ ≤ _; omega) d hcs
/-- an inherited method, or one that the reference names in a superclass -/
theorem vi_U {k : Nat} {C : String} {x9 : MethodName} (K : vd_K t) (h0 : mt_h t = []) (hC : vd_Cn k C) (hx : mt_y t = ⟨(mt_y t).cls, x9.name, x9.desc⟩) (h1 : Cond.methodLink own idx x9 ∈ lw_all) (h2 : Cond.sameMethod x9.cls (mt_y t).cls x9.name x9.desc ∈ lw_all) (h3 : Cond.instanceMethod (mt_y t) ∈ lw_all) (h4 : Cond.selects C x9 (mt_y t) ∈ lw_all) (d : decode cc pc = .ok (.invokevirtual idx, 3)) : vd_I own cc pc 3 (mt_n t + 1) t (some fun q => q = k) :=
  vi_U9 K h0 hC (by rw [hx]) K.2.2.1 h1 h2 h3 (fun G D H0 s args hK ht => ⟨by
    rw [← hx]
    have hc : Cond.code (mt_y t) (mt_c t) (tb_maxl t) (tb_ret t) ∈ mt_ws t := by rw [mt_code h0]; exact List.mem_cons_self
    exact va_Decl.of (ht _ h3) (ht _ (K.ws _ hc)), ht _ h4⟩) d
/-- an overriding method -/
theorem vi_O {k : Nat} {C owner : String} {x9 : MethodName} {b0 : ByteArray} {m0 : Nat} {r0 : Option FieldType} (K : vd_K t) (h0 : mt_h t = []) (hC : vd_Cn k C) (hx : x9.desc = (mt_y t).desc) (ho : owner ≠ "java/lang/invoke/MethodHandle" ∧ owner ≠ "java/lang/invoke/VarHandle") (h1 : Cond.methodLink own idx x9 ∈ lw_all) (h2 : Cond.sameMethod x9.cls owner x9.name x9.desc ∈ lw_all) (h3 : Cond.instanceMethod (mt_y t) ∈ lw_all) (h4 : Cond.selects C x9 (mt_y t) ∈ lw_all) (h5 : Cond.instanceMethod ⟨owner, x9.name, x9.desc⟩ ∈ lw_all) (h6 : Cond.code ⟨owner, x9.name, x9.desc⟩ b0 m0 r0 ∈ lw_all) (d : decode cc pc = .ok (.invokevirtual idx, 3)) : vd_I own cc pc 3 (mt_n t + 1) t (some fun q => q = k) :=
  vi_U9 K h0 hC hx ho h1 h2 h3 (fun G D H0 s args hK ht => ⟨va_Decl.of (ht _ h5) (ht _ h6), ht _ h4⟩) d
/-- the named method is abstract -/
theorem vi_A {k : Nat} {C owner : String} {x9 : MethodName} (K : vd_K t) (h0 : mt_h t = []) (hC : vd_Cn k C) (hx : x9.desc = (mt_y t).desc) (ho : owner ≠ "java/lang/invoke/MethodHandle" ∧ owner ≠ "java/lang/invoke/VarHandle") (h1 : Cond.methodLink own idx x9 ∈ lw_all) (h2 : Cond.sameMethod x9.cls owner x9.name x9.desc ∈ lw_all) (h3 : Cond.instanceMethod (mt_y t) ∈ lw_all) (h4 : Cond.selects C x9 (mt_y t) ∈ lw_all) (h5 : Cond.declares ⟨owner, x9.name, x9.desc⟩ ∈ lw_tbl) (d : decode cc pc = .ok (.invokevirtual idx, 3)) : vd_I own cc pc 3 (mt_n t + 1) t (some fun q => q = k) :=
  vi_U9 K h0 hC hx ho h1 h2 h3 (fun G D H0 s args hK ht => ⟨va_Decl.abs (hK.2.2.1 _ h5 rfl), ht _ h4⟩) d
theorem sd_selp {s : State} {args : Array Value} {C : String} {cC : ClassId} {y : MethodName} (hC : s.vm.findClass C = some cC) (hsame : (Cond.sameMethod y.cls y.cls y.name y.desc).before args s = true) (hpriv : (Cond.privateMethod y).before args s = true) (hinst : (Cond.instanceMethod y).before args s = true) : (Cond.selects C y y).before args s = true := by
  obtain ⟨cn, ck, r1, hcn, hck, hni, hf, hn1⟩ := Cond.sameMethod_found hsame
  obtain ⟨mk, methM, hnamed, hmethM, -, -⟩ := Cond.instanceMethod_spec hinst
  cases hnamed.symm.trans hn1
  have hcls : r1.cls = cn := Option.some.inj ((findClass_of_methodNamed hnamed).symm.trans hcn)
  have hsel : selectMethod {} s.vm cC r1 = .method r1 := selectMethod_private hmethM (Cond.privateMethod_at hpriv r1 methM hnamed hmethM)
  simp only [Cond.before, Cond.holds, Cond.value, hC, hf, hnamed, hsel, hcls, hck]
  simp
  exact hni
/-- a private method of a superclass -/
theorem vi_P {k : Nat} {C : String} (K : vd_K t) (h0 : mt_h t = []) (hC : vd_Cn k C) (h1 : Cond.methodLink own idx (mt_y t) ∈ lw_all) (h2 : Cond.sameMethod (mt_y t).cls (mt_y t).cls (mt_y t).name (mt_y t).desc ∈ lw_all) (h3 : Cond.instanceMethod (mt_y t) ∈ lw_all) (h4 : Cond.privateMethod (mt_y t) ∈ lw_tbl) (d : decode cc pc = .ok (.invokevirtual idx, 3)) : vd_I own cc pc 3 (mt_n t + 1) t (some fun q => q = k) :=
  vi_U9 K h0 hC rfl K.2.2.1 h1 h2 h3 (fun G D H0 s args hK ht => ⟨by
    have hc : Cond.code (mt_y t) (mt_c t) (tb_maxl t) (tb_ret t) ∈ mt_ws t := by rw [mt_code h0]; exact List.mem_cons_self
    exact va_Decl.of (ht _ h3) (ht _ (K.ws _ hc)), by
    obtain ⟨T, N, hC⟩ := hC
    exact sd_selp (hK.1.1 k _ hC).2.1 (ht _ h2) (va_Nw.use rfl (hK.2.2.1 _ h4 rfl)) (ht _ h3)⟩) d
/-- super.m(): the superclass's own method -/
theorem vi_SU (K : vd_K t) (h0 : mt_h t = []) (hn0 : (mt_y t).name ≠ "<init>") (h1 : Cond.methodLink own idx (mt_y t) ∈ lw_all) (h2 : Cond.sameMethod (mt_y t).cls (mt_y t).cls (mt_y t).name (mt_y t).desc ∈ lw_all) (h3 : Cond.superclass own (mt_y t).cls ∈ lw_all) (h4 : Cond.instanceMethod (mt_y t) ∈ lw_all) (d : decode cc pc = .ok (.invokespecial idx, 3)) : vd_I own cc pc 3 (mt_n t + 1) t (some fun _ => True) := by
  intro G D H0 p l e R s m args below meth c nL H locs cells slots mc ms rm Pc Qc XC free As rest ls S hK hM hr hf hP hn hv hls hW hcs
  obtain ⟨b, Bs, k, r, rfl, -, hk, hpv⟩ := (hv _ rfl).pre hP
  rw [rv_stack]
  exact vx_runSU (hK.1.1 k _ hk).2 S hM (va_cwSU (mt_n t) S.2.2.2.2 (K.good (l := [.methodLink own idx (mt_y t), .sameMethod (mt_y t).cls (mt_y t).cls (mt_y t).name (mt_y t).desc, .superclass own (mt_y t).cls, .instanceMethod (mt_y t), .initialized (mt_y t).cls]) (by intro w hw; simp only [List.mem_cons, List.not_mem_nil, or_false] at hw; rcases hw with rfl | rfl | rfl | rfl | rfl; exact h1; exact h2; exact h3; exact h4; exact K.2.2.2.2)) (mt_code h0) hr.1 hr.2 ⟨hn0, K.2.2.2.1⟩ hf) hpv rfl (Nat.succ.inj hn) hls rfl (by show 2 * 0 + _ ≤ _; omega) d hcs
/-- through an interface -/
theorem vi_F {k cnt : Nat} {C : String} {x9 : MethodName} (K : vd_K t) (h0 : mt_h t = []) (hC : vd_Cn k C) (hx : x9.desc = (mt_y t).desc ∧ x9.cls ≠ "java/lang/invoke/MethodHandle" ∧ x9.cls ≠ "java/lang/invoke/VarHandle") (h1 : Cond.methodLink own idx x9 ∈ lw_all) (h2 : Cond.selects C x9 (mt_y t) ∈ lw_all) (h3 : Cond.instanceMethod (mt_y t) ∈ lw_all) (f1 : Cond.declares x9 ∈ lw_tbl) (f2 : Cond.interfaceMethod x9.cls x9.cls x9.name x9.desc ∈ lw_tbl) (f3 : Cond.publicMethod (mt_y t) ∈ lw_tbl) (f4 : Cond.unhidden C x9.name x9.desc ∈ lw_tbl) (f5 : Cond.castable C x9.cls ∈ lw_tbl) (hr5 : sd_ride (Cond.interfaceMethod x9.cls x9.cls x9.name x9.desc) = true) (d : decode cc pc = .ok (.invokeinterface idx cnt, 5)) : vd_I own cc pc 5 (mt_n t + 1) t (some fun q => q = k) := by
  intro G D H0 p l e R s m args below meth c nL H locs cells slots mc ms rm Pc Qc XC free As rest ls S hK hM hr hf hP hn hv hls hW hcs
  obtain ⟨b, Bs, k', r, rfl, rfl, hk, hpv⟩ := (hv _ rfl).pre hP
  obtain ⟨T, N, hC⟩ := hC
  cases hk.symm.trans hC
  rw [rv_stack]
  have hF : va_Fw C x9 (mt_y t) s := va_Fw.of (A := #[]) (hK.2.2.1 _ f1 rfl) (hK.2.2.1 _ f2 hr5) (hK.2.2.1 _ f3 rfl) (hK.2.2.1 _ f4 rfl) (hK.2.2.1 _ f5 rfl)
  exact vx_runF (hK.1.1 k' _ hk).2 S hM (va_cwF (mt_n t) S.2.2.2.2 (K.good (l := [.methodLink own idx x9, .selects C x9 (mt_y t), .instanceMethod (mt_y t), .initialized (mt_y t).cls]) (by intro w hw; simp only [List.mem_cons, List.not_mem_nil, or_false] at hw; rcases hw with rfl | rfl | rfl | rfl; exact h1; exact h2; exact h3; exact K.2.2.2.2)) (mt_code h0) hr.1 hr.2 hF ⟨hx.2.1, hx.2.2, by rw [hx.1]; exact K.2.2.2.1⟩ hf) hpv rfl (Nat.succ.inj hn) hls rfl (by show 2 * 0 + _ ≤ _; omega) d hcs
end VI
