/-! SOUNDNESS, 6: one instruction -/
/-- a class's name, or an array's, that a cast may meet -/
def vd_Ac (k : Nat) (nm : String) : Prop := (k < 1000 ∧ vd_A k nm) ∨ (k = 1001 ∧ nm = "[B") ∨ (k = 1002 ∧ nm = "[Ljava/lang/Object;")
/-- what is known of a method's handlers -/
def vd_H (t : Nat) : Prop := ∃ hs : List (Nat × Nat × Nat × Nat × Nat × String), tb_hnd t = hs.map (fun q => (q.1, q.2.1, q.2.2.1, [q.2.2.2.2.1])) ∧ mt_h t = hs.map (fun q => (q.1, q.2.1, q.2.2.1, q.2.2.2.1)) ∧
  ∀ q ∈ hs, q.2.2.2.1 ≠ 0 ∧ Cond.classLink (mt_y t).cls q.2.2.2.1 q.2.2.2.2.2 ∈ lw_all ∧ vd_Cn q.2.2.2.2.1 q.2.2.2.2.2 ∧ Cond.castable q.2.2.2.2.2 q.2.2.2.2.2 ∈ lw_tbl ∧ (∀ (k : Nat) (E : String), (k = 18 ∨ k = 19 ∨ k = 20) → k ≠ q.2.2.2.2.1 → vd_Cn k E → (E, q.2.2.2.2.2) ∈ sd_nc)
/-- a call's site, with what is known of the callee -/
def vd_J (own : String) (cc : ByteArray) (pc len n t : Nat) (P : Option (Nat → Prop)) : Prop := (vd_K t ∧ vd_H t ∧ tb_maxl t ≤ 40) ∧ n ≤ tb_maxl t ∧ (t = tb_mj → n = 2) ∧ vd_I own cc pc len n t P
/-- how long an instruction at pc is -/
def ip_ln (pc : Nat) (i : Instr) : Nat := match i with
  | .tableswitch _ _ _ offs => 1 + (3 - pc % 4) + 12 + 4 * offs.size
  | i => ip_len i
/-- what holds the table's instruction to the bytes and the words -/
def vd (cc : ByteArray) (own mn : String) (ret : Option FieldType) (pc : Nat) (i : Instr) (aux : List (Nat × Nat)) : Prop := decode cc pc = .ok (i, ip_ln pc i) ∧ match i with
  | .getfield idx => ∀ k j, aux = [(k, j)] → vd_G own idx k j ∧ vd_C k
  | .putfield idx => ∀ k j, aux = [(k, j)] → vd_P own mn idx k j ∧ vd_C k
  | .getstatic idx => ∀ g b, aux = [(g, b)] → b = 0 ∧ vd_S own idx g
  | .ldc idx => ∀ g b, aux = [(g, b)] → (b = 0 ∧ g = 0 ∧ Cond.classLink own idx "[Ljava/lang/Object;" ∈ lw_all) ∨ (b = 0 ∧ vd_T own idx g) ∨ (b = 1 ∧ ∃ v : Int32, Cond.constant own idx v ∈ lw_all ∧ tb_cst g = .int v)
  | .ldc_w idx => ∀ g b, aux = [(g, b)] → b = 1 ∧ ∃ v : Int32, Cond.constant own idx v ∈ lw_all ∧ tb_cst g = .int v
  | .ldc2_w idx => ∀ g b, aux = [(g, b)] → b = 1 ∧ ∃ v : Int64, Cond.constantLong own idx v ∈ lw_all ∧ tb_cst g = .long v
  | .aaload => ∀ k b, aux = [(k, b)] → (tb_aty k).isReference = true
  | .aastore => ∀ k b ks, aux = (k, b) :: ks → ∃ nm, tb_aty k = .object nm ∧ ∀ kv, ks.contains (kv, 0) = true → kv < 1000 ∧ vd_A kv nm
  | .new idx => ∀ k b, aux = [(k, b)] → (b = 0 → vd_N own idx k ∧ vd_C k) ∧ (b = 1 → vd_X own cc pc idx k)
  | .newarray at_ => Cond.arrayClass (newarray.typeOf at_) ∈ lw_all ∧ newarray.typeOf at_ ∈ sd_atys
  | .anewarray idx => ∀ k b, aux = [(k, b)] → ∃ nm, tb_aty k = .object nm ∧ Cond.classLink own idx nm ∈ lw_all ∧ nm ∈ sd_ao ∧ FieldType.object nm ∈ sd_atys
  | .multianewarray idx dm => dm = 2 ∧ Cond.classLink own idx "[[I" ∈ lw_all ∧ Cond.arrayClass .int ∈ lw_all ∧ FieldType.array .int ∈ sd_atys ∧ FieldType.int ∈ sd_atys
  | .checkcast idx => ∃ nm, Cond.classLink own idx nm ∈ lw_all ∧ ∀ k, aux.contains (k, 1) = true → vd_Ac k nm
  | .instanceof idx => ∃ nm, Cond.classLink own idx nm ∈ lw_all ∧ (∀ k, aux.contains (k, 1) = true → k < 1000 ∧ vd_A k nm) ∧ ∀ k, aux.contains (k, 0) = true → k < 1000 ∧ vd_B k nm
  | .invokestatic idx => ∀ y t, aux = [(y, t)] → (t = 9000 → vd_Y own idx) ∧ (t ≠ 9000 → vd_J own cc pc 3 (tb_nar t) t none)
  | .invokespecial idx => ∀ y t, aux = [(y, t)] → (t = 9001 → Cond.methodLink own idx Lib.objectInit ∈ lw_all) ∧ (t ≠ 9001 → vd_J own cc pc 3 (tb_nar t) t (some fun _ => True))
  | .invokevirtual idx => ∀ n y vt, aux = (n, y) :: vt → ∀ k t, vt.lookup k = some t → (t = 9002 → n = 1 ∧ k = 1001 ∧ vd_Cl own idx) ∧ (t = 9003 → n = 1 ∧ k = 1002 ∧ vd_Gc own idx) ∧ (t ≠ 9002 → t ≠ 9003 → k < 1000 ∧ vd_J own cc pc 3 n t (some fun q => q = k))
  | .invokeinterface _ _ => ∀ n y vt, aux = (n, y) :: vt → ∀ k t, vt.lookup k = some t → k < 1000 ∧ vd_J own cc pc 5 n t (some fun q => q = k)
  | .ireturn => ∀ v, ip_rok ret v = true → ∃ x, v = .int x
  | .lreturn => ret = some .long
  | .dreturn => ret = some .double
  | .areturn => (∃ n, ret = some (.object n)) ∨ ∃ ty, ret = some (.array ty)
  | _ => True
/-- words that all of them share -/
def vd_0 : Prop := Cond.native arraycopyName ∈ lw_all ∧ Cond.static arraycopyName ∈ lw_all ∧ Cond.initialized "java/lang/System" ∈ lw_all ∧ (∀ k : Nat, (k = 3 ∨ k = 4 ∨ k = 9) → vd_A k "java/lang/Object") ∧ Cond.instanceMethod Lib.objectInit ∈ lw_all ∧ Cond.code Lib.objectInit ⟨#[0xb1]⟩ 1 none ∈ lw_all
/-! what each family of instructions comes to -/
section INV
variable {G : Nat → Value} {W : List Nat} {ret : Option FieldType} {aux : List (Nat × Nat)} {pc : Nat} {L : List (Option Value)} {st : List Value} {σ : AH} {act : ip_Act}
theorem nx_inv (h : ip_nx pc L st σ = some act) : act = .inl ((pc, L, st), σ) := (Option.some.inj h).symm
theorem ld_inv {o : Option Value} (h : ip_ld o pc L st σ = some act) : ∃ v, o = some v ∧ act = .inl ((pc, L, v :: st), σ) := by
  unfold ip_ld at h
  cases o with
  | none => cases h
  | some v => exact ⟨v, rfl, nx_inv h⟩
theorem loadI_inv {k : Nat} {v : Value} (h : ip_loadI L k = some v) : ∃ x, v = .int x ∧ L[k]? = some (some (.int x)) := by
  unfold ip_loadI at h
  split at h
  · rename_i x e; cases h; exact ⟨x, rfl, e⟩
  · cases h
theorem loadJ_inv {k : Nat} {v : Value} (h : ip_loadJ L k = some v) : ∃ x, v = .long x ∧ L[k]? = some (some (.long x)) := by
  unfold ip_loadJ at h
  split at h
  · rename_i x e; cases h; exact ⟨x, rfl, e⟩
  · cases h
theorem loadD_inv {k : Nat} {v : Value} (h : ip_loadD L k = some v) : ∃ x, v = .double x ∧ L[k]? = some (some (.double x)) := by
  unfold ip_loadD at h
  split at h
  · rename_i x e; cases h; exact ⟨x, rfl, e⟩
  · cases h
theorem loadA_inv {k : Nat} {v : Value} (h : ip_loadA L k = some v) : (∃ x, v = .ref x ∧ L[k]? = some (some (.ref x))) ∨ (v = .null ∧ L[k]? = some (some .null)) := by
  unfold ip_loadA at h
  split at h
  · rename_i x e; cases h; exact Or.inl ⟨x, rfl, e⟩
  · rename_i e; cases h; exact Or.inr ⟨rfl, e⟩
  · cases h
theorem sI_inv {k : Nat} (h : ip_sI W k pc L st σ = some act) : ∃ x r, st = .int x :: r ∧ k < L.length ∧ act = .inl ((pc, ip_st1 W L k (.int x), r), σ) := by
  unfold ip_sI at h
  split at h
  · split at h
    · rename_i x r hk; exact ⟨x, r, rfl, hk, nx_inv h⟩
    · cases h
  · cases h
theorem sA_inv {k : Nat} (h : ip_sA W k pc L st σ = some act) : (∃ x r, st = .ref x :: r ∧ k < L.length ∧ act = .inl ((pc, ip_st1 W L k (.ref x), r), σ)) ∨ (∃ r, st = .null :: r ∧ k < L.length ∧ act = .inl ((pc, ip_st1 W L k .null, r), σ)) := by
  unfold ip_sA at h
  split at h
  · split at h
    · rename_i x r hk; exact Or.inl ⟨x, r, rfl, hk, nx_inv h⟩
    · cases h
  · split at h
    · rename_i r hk; exact Or.inr ⟨r, rfl, hk, nx_inv h⟩
    · cases h
  · cases h
theorem sJ_inv {k : Nat} (h : ip_sJ W k pc L st σ = some act) : ∃ x r, st = .long x :: r ∧ (k + 1 < L.length ∧ W.contains k = true) ∧ act = .inl ((pc, ip_st2 W L k (.long x), r), σ) := by
  unfold ip_sJ at h
  split at h
  · split at h
    · rename_i x r hk; exact ⟨x, r, rfl, hk, nx_inv h⟩
    · cases h
  · cases h
theorem sD_inv {k : Nat} (h : ip_sD W k pc L st σ = some act) : ∃ x r, st = .double x :: r ∧ (k + 1 < L.length ∧ W.contains k = true) ∧ act = .inl ((pc, ip_st2 W L k (.double x), r), σ) := by
  unfold ip_sD at h
  split at h
  · split at h
    · rename_i x r hk; exact ⟨x, r, rfl, hk, nx_inv h⟩
    · cases h
  · cases h
theorem inc_inv {k : Nat} {n : Int} (h : ip_inc W k n pc L st σ = some act) : ∃ x, L[k]? = some (some (.int x)) ∧ act = .inl ((pc, ip_st1 W L k (.int (x + Int32.ofInt n)), st), σ) := by
  unfold ip_inc at h
  split at h
  · rename_i x e; exact ⟨x, e, nx_inv h⟩
  · cases h
theorem b2_inv {f : Int32 → Int32 → Value} (h : ip_b2 f pc L st σ = some act) : ∃ y x r, st = .int y :: .int x :: r ∧ act = .inl ((pc, L, f x y :: r), σ) := by
  unfold ip_b2 at h
  split at h
  · rename_i y x r; exact ⟨y, x, r, rfl, nx_inv h⟩
  · cases h
theorem b2z_inv {f : Int32 → Int32 → Value} (h : ip_b2z f pc L st σ = some act) : ∃ y x r, st = .int y :: .int x :: r ∧ ¬ y = 0 ∧ act = .inl ((pc, L, f x y :: r), σ) := by
  unfold ip_b2z at h
  split at h
  · split at h
    · cases h
    · rename_i y x r hy; exact ⟨y, x, r, rfl, hy, nx_inv h⟩
  · cases h
theorem u1_inv {f : Int32 → Value} (h : ip_u1 f pc L st σ = some act) : ∃ x r, st = .int x :: r ∧ act = .inl ((pc, L, f x :: r), σ) := by
  unfold ip_u1 at h
  split at h
  · rename_i x r; exact ⟨x, r, rfl, nx_inv h⟩
  · cases h
theorem j1_inv {f : Int64 → Value} (h : ip_j1 f pc L st σ = some act) : ∃ x r, st = .long x :: r ∧ act = .inl ((pc, L, f x :: r), σ) := by
  unfold ip_j1 at h
  split at h
  · rename_i x r; exact ⟨x, r, rfl, nx_inv h⟩
  · cases h
theorem j2_inv {f : Int64 → Int64 → Value} (h : ip_j2 f pc L st σ = some act) : ∃ y x r, st = .long y :: .long x :: r ∧ act = .inl ((pc, L, f x y :: r), σ) := by
  unfold ip_j2 at h
  split at h
  · rename_i y x r; exact ⟨y, x, r, rfl, nx_inv h⟩
  · cases h
theorem d2_inv {ok : UInt64 → UInt64 → Bool} {f : UInt64 → UInt64 → Value} (h : ip_d2 ok f pc L st σ = some act) : ∃ y x r, st = .double y :: .double x :: r ∧ ok x y = true ∧ act = .inl ((pc, L, f x y :: r), σ) := by
  unfold ip_d2 at h
  split at h
  · split at h
    · rename_i y x r hk; exact ⟨y, x, r, rfl, hk, nx_inv h⟩
    · cases h
  · cases h
theorem dup_inv (h : ip_dup pc L st σ = some act) : ∃ v r, st = v :: r ∧ v.category = 1 ∧ act = .inl ((pc, L, v :: v :: r), σ) := by
  unfold ip_dup at h
  split at h
  · split at h
    · rename_i v r hk; exact ⟨v, r, rfl, hk, nx_inv h⟩
    · cases h
  · cases h
theorem pop_inv (h : ip_pop pc L st σ = some act) : ∃ v r, st = v :: r ∧ v.category = 1 ∧ act = .inl ((pc, L, r), σ) := by
  unfold ip_pop at h
  split at h
  · split at h
    · rename_i v r hk; exact ⟨v, r, rfl, hk, nx_inv h⟩
    · cases h
  · cases h
theorem dupx_inv (h : ip_dupx pc L st σ = some act) : ∃ v w r, st = v :: w :: r ∧ (v.category = 1 ∧ w.category = 1) ∧ act = .inl ((pc, L, v :: w :: v :: r), σ) := by
  unfold ip_dupx at h
  split at h
  · split at h
    · rename_i v w r hk; exact ⟨v, w, r, rfl, hk, nx_inv h⟩
    · cases h
  · cases h
theorem dup2_inv (h : ip_dup2 pc L st σ = some act) : ∃ v w r, st = v :: w :: r ∧ (v.category = 1 ∧ w.category = 1) ∧ act = .inl ((pc, L, v :: w :: v :: w :: r), σ) := by
  unfold ip_dup2 at h
  split at h
  · split at h
    · rename_i v w r hk; exact ⟨v, w, r, rfl, hk, nx_inv h⟩
    · cases h
  · cases h
theorem jt_inv {off : Int} {tgt : Nat} (h : ip_jt pc off = some tgt) : (pc : Int) + off = (tgt : Int) := by
  unfold ip_jt at h
  split at h
  · rename_i h0; cases h; omega
  · cases h
theorem jb_inv {off : Int} {f : Nat → Option ip_Act} (h : (ip_jt pc off).bind f = some act) : ∃ tgt : Nat, (pc : Int) + off = (tgt : Int) ∧ f tgt = some act := by
  cases e : ip_jt pc off with
  | none => rw [e] at h; cases h
  | some tgt => rw [e] at h; exact ⟨tgt, jt_inv e, h⟩
theorem br1_inv {cd : Jvm.ClassFile.Cond} {off : Int} (h : ip_br1 cd off pc L st σ = some act) : ∃ x r tgt, st = .int x :: r ∧ (pc : Int) + off = ((tgt : Nat) : Int) ∧ act = .inl ((if ip_cc cd x 0 = true then tgt else pc + 3, L, r), σ) := by
  unfold ip_br1 at h
  split at h
  · rename_i x r; obtain ⟨tgt, h1, h2⟩ := jb_inv h; exact ⟨x, r, tgt, rfl, h1, nx_inv h2⟩
  · cases h
theorem br2_inv {cd : Jvm.ClassFile.Cond} {off : Int} (h : ip_br2 cd off pc L st σ = some act) : ∃ y x r tgt, st = .int y :: .int x :: r ∧ (pc : Int) + off = ((tgt : Nat) : Int) ∧ act = .inl ((if ip_cc cd x y = true then tgt else pc + 3, L, r), σ) := by
  unfold ip_br2 at h
  split at h
  · rename_i y x r; obtain ⟨tgt, h1, h2⟩ := jb_inv h; exact ⟨y, x, r, tgt, rfl, h1, nx_inv h2⟩
  · cases h
theorem bra_inv {cd : ACond} {off : Int} (h : ip_bra cd off pc L st σ = some act) : ∃ y x r tgt, st = y :: x :: r ∧ (ip_isA y = true ∧ ip_isA x = true) ∧ (pc : Int) + off = ((tgt : Nat) : Int) ∧ act = .inl ((if ip_ac cd x y = true then tgt else pc + 3, L, r), σ) := by
  unfold ip_bra at h
  split at h
  · rename_i y x r
    split at h
    · rename_i hk; obtain ⟨tgt, h1, h2⟩ := jb_inv h; exact ⟨y, x, r, tgt, rfl, hk, h1, nx_inv h2⟩
    · cases h
  · cases h
theorem brn_inv {nn : Bool} {off : Int} (h : ip_brn nn off pc L st σ = some act) : ∃ r tgt, (pc : Int) + off = ((tgt : Nat) : Int) ∧ ((st = .null :: r ∧ act = .inl ((if nn = true then pc + 3 else tgt, L, r), σ)) ∨ ∃ a, st = .ref a :: r ∧ act = .inl ((if nn = true then tgt else pc + 3, L, r), σ)) := by
  unfold ip_brn at h
  split at h
  · rename_i r; obtain ⟨tgt, h1, h2⟩ := jb_inv h; exact ⟨r, tgt, h1, Or.inl ⟨rfl, nx_inv h2⟩⟩
  · rename_i a r; obtain ⟨tgt, h1, h2⟩ := jb_inv h; exact ⟨r, tgt, h1, Or.inr ⟨a, rfl, nx_inv h2⟩⟩
  · cases h
theorem bd_inv {α : Type} {o : Option α} {f : α → Option ip_Act} (h : o.bind f = some act) : ∃ x, o = some x ∧ f x = some act := by
  cases o with
  | none => cases h
  | some x => exact ⟨x, rfl, h⟩
theorem pk_inv {n : Nat} {q : List Value × List Value} (h : ip_pk n st = some q) : st = q.1.reverse ++ q.2 ∧ q.1.length = n ∧ q.2.length ≤ 4 := by
  unfold ip_pk at h
  split at h
  · rename_i hk
    cases h
    refine ⟨by simp, by simp; omega, hk.2⟩
  · cases h
end INV
section STEP
variable {G : Nat → Value} {D : sd_D} {H0 : Heap} {p : Program} {l : Launch} {e : Env} {R : Room} {s : State} {m : MethodId} {args : Array Value} {below : List Frame} {meth : Method} {c : Code} {t : Nat}
variable {u0 : Nat} {Q : State → Prop} {σ σ' : AH} {pc pc' : Nat} {L L' : List (Option Value)} {st st' : List Value} {i : Instr} {aux : List (Nat × Nat)}
/-- a return, with v -/
def sd_Rt (t pc : Nat) (st : List Value) (v : Option Value) : Prop := (v = none ∧ st = [] ∧ decode (mt_c t) pc = .ok (.return_, 1) ∧ tb_ret t = none) ∨ (∃ x, v = some (.int x) ∧ st = [.int x] ∧ decode (mt_c t) pc = .ok (.ireturn, 1) ∧ ip_rok (tb_ret t) (.int x) = true) ∨
  (∃ x, v = some (.long x) ∧ st = [.long x] ∧ decode (mt_c t) pc = .ok (.lreturn, 1) ∧ tb_ret t = some .long) ∨ (∃ x, v = some (.double x) ∧ st = [.double x] ∧ decode (mt_c t) pc = .ok (.dreturn, 1) ∧ tb_ret t = some .double) ∨
  (∃ w, v = some w ∧ st = [w] ∧ (w = .null ∨ ∃ a, w = .ref a) ∧ decode (mt_c t) pc = .ok (.areturn, 1) ∧ ((∃ n, tb_ret t = some (.object n)) ∨ ∃ ty, tb_ret t = some (.array ty)))
theorem so_oinit (C : sd_CX G D H0 p l R s m args meth c t) (V0 : vd_0) {idx a : Nat} (V : Cond.methodLink (mt_y t).cls idx Lib.objectInit ∈ lw_all) (d : sd_at t pc (.invokespecial idx) 3) (hst : st.length ≤ 4)
    (kk : sd_W D H0 p l e R s m args below meth c t u0 Q σ (pc + 3) L st) : sd_W D H0 p l e R s m args below meth c t u0 Q σ pc L (.ref a :: st) := by
  intro H locs ls hH hl hL
  have hcs := cat_sum st
  have hfr := C.fr
  exact W.objInit C.1 C.2.1 C.own (C.hts _ V) (C.hts _ V0.2.2.2.2.1) (C.hts _ V0.2.2.2.2.2) (g := F0 m pc ls (.ref a :: st)) rfl (by rw [C.ml]; exact hL.2.1) rfl d (by omega) (by show 2 * 0 + _ + 12 ≤ _; omega) (kk H locs ls hH hl hL)
theorem so_castA (C : sd_CX G D H0 p l R s m args meth c t) {idx a k : Nat} {nm : String} (V : Cond.classLink (mt_y t).cls idx nm ∈ lw_all) (hk : (k = 1001 ∧ nm = "[B") ∨ (k = 1002 ∧ nm = "[Ljava/lang/Object;")) (h : ah_cls σ a = some k) (d : sd_at t pc (.checkcast idx) 3) (kk : sd_W D H0 p l e R s m args below meth c t u0 Q σ (pc + 3) L (.ref a :: st)) : sd_W D H0 p l e R s m args below meth c t u0 Q σ pc L (.ref a :: st) := by
  intro H locs ls hH hl hL
  have key : ∃ (ty : FieldType) (n : Nat) (f : Nat → Value), ty ∈ sd_atys ∧ H[a]? = some (arrV (D.2 ty) n f) ∧ s.vm.findClass nm = some (D.2 ty) := by
    rcases hk with ⟨rfl, rfl⟩ | ⟨rfl, rfl⟩
    · obtain ⟨b, n, f, hc⟩ := cls_byte h (fun b vs e => by
        obtain ⟨r, r1, -⟩ := (hH.2.2.2 a b _ e).1
        exact absurd (List.getElem?_eq_some_iff.mp r1).1 (show ¬ 1001 < sd_cl.length by decide))
      obtain ⟨t1, t2, t3⟩ := (hH.2.2.2 a b _ hc).1
      exact ⟨_, n, f, t1, t3, (C.K.2.1 _ t1).2⟩
    · obtain ⟨b, n, f, hc⟩ := cls_objs h (fun b vs e => by
        obtain ⟨r, r1, -⟩ := (hH.2.2.2 a b _ e).1
        exact absurd (List.getElem?_eq_some_iff.mp r1).1 (show ¬ 1002 < sd_cl.length by decide))
      obtain ⟨t1, t2, t3⟩ := (hH.2.2.2 a b _ hc).1
      exact ⟨_, n, f, t1, t3, va_nmO (C.K.2.1 _ t1).2 (by decide)⟩
  obtain ⟨ty, n, f, h1, h2, h3⟩ := key
  intro T hT X
  obtain ⟨vm', X', st1⟩ := X.checkcastYes C.1 C.own (C.hts _ V) (cell := arrV (D.2 ty) n f) (by rw [hT]; exact h2) rfl h3 (Vm.assignable_self _ _) (g := F0 m pc ls (.ref a :: st)) rfl rfl (by rw [C.2.1]; exact d)
  obtain ⟨t9, a1, b1⟩ := kk H locs ls hH hl hL (T.setVm vm') hT X'
  exact ⟨t9, st1 t9 a1, b1⟩
/-- one instruction, wherever it leads -/
theorem so_step (C : sd_CX G D H0 p l R s m args meth c t) (V0 : vd_0) (V : vd (mt_c t) (mt_y t).cls (mt_y t).name (tb_ret t) pc i aux) (hs : s.heap.size ≤ σ.2.1) (hu : u0 ≤ σ.2.2) {act : ip_Act} (ha : ip_act G (tb_wide t) (tb_ret t) i aux pc L st σ = some act)
    (k1 : ∀ pc' L' st' σ', act = .inl ((pc', L', st'), σ') → (σ'.2.1 - s.heap.size ≤ R.cells ∧ σ'.2.2 - u0 ≤ R.slots) ∧ sd_W D H0 p l e R s m args below meth c t u0 Q σ' pc' L' st')
    (k2 : ∀ v, act = .inr (.inl (v, σ)) → sd_Rt t pc st v → sd_W D H0 p l e R s m args below meth c t u0 Q σ pc L st)
    (k3 : ∀ (t' : Nat) (As : List Value) (len n : Nat) (P : Option (Nat → Prop)) (st' : List Value), act = .inr (.inr (.inl (t', As, (pc + len, L, st'), σ))) → vd_J (mt_y t).cls (mt_c t) pc len n t' P → As.length = n → (∀ Q, P = some Q → ∃ (b : Nat) (Bs : List Value) (k : Nat), As = .ref b :: Bs ∧ Q k ∧ k < 1000 ∧ ah_cls σ b = some k) → ip_ok t' As = true → st = As.reverse ++ st' → st'.length ≤ 4 → sd_W D H0 p l e R s m args below meth c t u0 Q σ pc L st)
    (k4 : ∀ (k a : Nat) (st' : List Value), act = .inr (.inr (.inr (k, σ))) → st = .ref a :: st' → ah_cls σ a = some k → (k = 18 ∨ k = 19 ∨ k = 20) → decode (mt_c t) pc = .ok (.athrow, 1) → sd_W D H0 p l e R s m args below meth c t u0 Q σ pc L st) :
    sd_W D H0 p l e R s m args below meth c t u0 Q σ pc L st := by
  obtain ⟨d, V⟩ := V
  cases i with
  | iconst n =>
    cases nx_inv ha
    exact sp_iconst C d (k1 _ _ _ _ rfl).2
  | bipush n =>
    cases nx_inv ha
    exact sp_bipush C d (k1 _ _ _ _ rfl).2
  | sipush n =>
    cases nx_inv ha
    exact sp_sipush C d (k1 _ _ _ _ rfl).2
  | lconst n =>
    cases nx_inv ha
    exact sp_lconst C d (k1 _ _ _ _ rfl).2
  | dconst n =>
    unfold ip_act at ha
    dsimp only at ha
    split at ha
    · rename_i hn
      cases nx_inv ha
      exact sp_dconst C hn d (k1 _ _ _ _ rfl).2
    · cases ha
  | aconst_null =>
    cases nx_inv ha
    exact sp_null C d (k1 _ _ _ _ rfl).2
  | iload_n k =>
    obtain ⟨v, h1, h2⟩ := ld_inv ha
    obtain ⟨x, rfl, h3⟩ := loadI_inv h1
    subst h2
    exact sp_iload_n C d h3 (k1 _ _ _ _ rfl).2
  | iload k =>
    obtain ⟨v, h1, h2⟩ := ld_inv ha
    obtain ⟨x, rfl, h3⟩ := loadI_inv h1
    subst h2
    exact sp_iload C d h3 (k1 _ _ _ _ rfl).2
  | lload_n k =>
    obtain ⟨v, h1, h2⟩ := ld_inv ha
    obtain ⟨x, rfl, h3⟩ := loadJ_inv h1
    subst h2
    exact sp_lload_n C d h3 (k1 _ _ _ _ rfl).2
  | lload k =>
    obtain ⟨v, h1, h2⟩ := ld_inv ha
    obtain ⟨x, rfl, h3⟩ := loadJ_inv h1
    subst h2
    exact sp_lload C d h3 (k1 _ _ _ _ rfl).2
  | dload_n k =>
    obtain ⟨v, h1, h2⟩ := ld_inv ha
    obtain ⟨x, rfl, h3⟩ := loadD_inv h1
    subst h2
    exact sp_dload_n C d h3 (k1 _ _ _ _ rfl).2
  | dload k =>
    obtain ⟨v, h1, h2⟩ := ld_inv ha
    obtain ⟨x, rfl, h3⟩ := loadD_inv h1
    subst h2
    exact sp_dload C d h3 (k1 _ _ _ _ rfl).2
  | aload_n k =>
    obtain ⟨v, h1, h2⟩ := ld_inv ha
    subst h2
    rcases loadA_inv h1 with ⟨x, rfl, h3⟩ | ⟨rfl, h3⟩
    · exact sp_aload_n C d h3 (k1 _ _ _ _ rfl).2
    · exact sp_aload_nN C d h3 (k1 _ _ _ _ rfl).2
  | aload k =>
    obtain ⟨v, h1, h2⟩ := ld_inv ha
    subst h2
    rcases loadA_inv h1 with ⟨x, rfl, h3⟩ | ⟨rfl, h3⟩
    · exact sp_aload C d h3 (k1 _ _ _ _ rfl).2
    · exact sp_aloadN C d h3 (k1 _ _ _ _ rfl).2
  | istore_n k =>
    obtain ⟨x, r, rfl, h1, rfl⟩ := sI_inv ha
    exact sp_istore_n C d h1 (k1 _ _ _ _ rfl).2
  | lstore_n k =>
    obtain ⟨x, r, rfl, h1, rfl⟩ := sJ_inv ha
    exact sp_lstore_n C d h1 (k1 _ _ _ _ rfl).2
  | astore_n k =>
    rcases sA_inv ha with ⟨x, r, rfl, h1, rfl⟩ | ⟨r, rfl, h1, rfl⟩
    · exact sp_astore_n C d h1 (k1 _ _ _ _ rfl).2
    · exact sp_astore_nN C d h1 (k1 _ _ _ _ rfl).2
  | istore k =>
    obtain ⟨x, r, rfl, h1, rfl⟩ := sI_inv ha
    exact sp_istore C d h1 (k1 _ _ _ _ rfl).2
  | lstore k =>
    obtain ⟨x, r, rfl, h1, rfl⟩ := sJ_inv ha
    exact sp_lstore C d h1 (k1 _ _ _ _ rfl).2
  | astore k =>
    rcases sA_inv ha with ⟨x, r, rfl, h1, rfl⟩ | ⟨r, rfl, h1, rfl⟩
    · exact sp_astore C d h1 (k1 _ _ _ _ rfl).2
    · exact sp_astoreN C d h1 (k1 _ _ _ _ rfl).2
  | dstore k =>
    obtain ⟨x, r, rfl, h1, rfl⟩ := sD_inv ha
    exact sp_dstore C d h1 (k1 _ _ _ _ rfl).2
  | iinc k n =>
    obtain ⟨x, h1, rfl⟩ := inc_inv ha
    exact sp_iinc C d h1 (k1 _ _ _ _ rfl).2
  | iadd =>
    obtain ⟨y, x, r, rfl, rfl⟩ := b2_inv ha
    exact sp_iadd C d (k1 _ _ _ _ rfl).2
  | isub =>
    obtain ⟨y, x, r, rfl, rfl⟩ := b2_inv ha
    exact sp_isub C d (k1 _ _ _ _ rfl).2
  | imul =>
    obtain ⟨y, x, r, rfl, rfl⟩ := b2_inv ha
    exact sp_imul C d (k1 _ _ _ _ rfl).2
  | iand =>
    obtain ⟨y, x, r, rfl, rfl⟩ := b2_inv ha
    exact sp_iand C d (k1 _ _ _ _ rfl).2
  | ior =>
    obtain ⟨y, x, r, rfl, rfl⟩ := b2_inv ha
    exact sp_ior C d (k1 _ _ _ _ rfl).2
  | ishl =>
    obtain ⟨y, x, r, rfl, rfl⟩ := b2_inv ha
    exact sp_ishl C d (k1 _ _ _ _ rfl).2
  | ishr =>
    obtain ⟨y, x, r, rfl, rfl⟩ := b2_inv ha
    exact sp_ishr C d (k1 _ _ _ _ rfl).2
  | iushr =>
    obtain ⟨y, x, r, rfl, rfl⟩ := b2_inv ha
    exact sp_iushr C d (k1 _ _ _ _ rfl).2
  | idiv =>
    obtain ⟨y, x, r, rfl, h1, rfl⟩ := b2z_inv ha
    exact sp_idiv C d h1 (k1 _ _ _ _ rfl).2
  | irem =>
    obtain ⟨y, x, r, rfl, h1, rfl⟩ := b2z_inv ha
    exact sp_irem C d h1 (k1 _ _ _ _ rfl).2
  | ineg =>
    obtain ⟨x, r, rfl, rfl⟩ := u1_inv ha
    exact sp_ineg C d (k1 _ _ _ _ rfl).2
  | i2b =>
    obtain ⟨x, r, rfl, rfl⟩ := u1_inv ha
    exact sp_i2b C d (k1 _ _ _ _ rfl).2
  | i2c =>
    obtain ⟨x, r, rfl, rfl⟩ := u1_inv ha
    exact sp_i2c C d (k1 _ _ _ _ rfl).2
  | i2l =>
    obtain ⟨x, r, rfl, rfl⟩ := u1_inv ha
    exact sp_i2l C d (k1 _ _ _ _ rfl).2
  | i2d =>
    obtain ⟨x, r, rfl, rfl⟩ := u1_inv ha
    exact sp_i2d C d (k1 _ _ _ _ rfl).2
  | l2i =>
    obtain ⟨x, r, rfl, rfl⟩ := j1_inv ha
    exact sp_l2i C d (k1 _ _ _ _ rfl).2
  | ladd =>
    obtain ⟨y, x, r, rfl, rfl⟩ := j2_inv ha
    exact sp_ladd C d (k1 _ _ _ _ rfl).2
  | lmul =>
    obtain ⟨y, x, r, rfl, rfl⟩ := j2_inv ha
    exact sp_lmul C d (k1 _ _ _ _ rfl).2
  | lcmp =>
    obtain ⟨y, x, r, rfl, rfl⟩ := j2_inv ha
    exact sp_lcmp C d (k1 _ _ _ _ rfl).2
  | ddiv =>
    obtain ⟨y, x, r, rfl, h1, rfl⟩ := d2_inv ha
    exact sp_ddiv C d (of_decide_eq_true (p := FP.ddiv x y &&& 0x7fffffffffffffff ≤ 0x7ff0000000000000) h1) (k1 _ _ _ _ rfl).2
  | dcmp op =>
    obtain ⟨y, x, r, rfl, h1, rfl⟩ := d2_inv ha
    exact sp_dcmp C d (k1 _ _ _ _ rfl).2
  | dup =>
    obtain ⟨v, r, rfl, h1, rfl⟩ := dup_inv ha
    exact sp_dup C d h1 (k1 _ _ _ _ rfl).2
  | pop =>
    obtain ⟨v, r, rfl, h1, rfl⟩ := pop_inv ha
    exact sp_pop C d h1 (k1 _ _ _ _ rfl).2
  | dup_x1 =>
    obtain ⟨v, w, r, rfl, h1, rfl⟩ := dupx_inv ha
    exact sp_dup_x1 C d h1.1 h1.2 (k1 _ _ _ _ rfl).2
  | dup2 =>
    obtain ⟨v, w, r, rfl, h1, rfl⟩ := dup2_inv ha
    exact sp_dup2 C d h1.1 h1.2 (k1 _ _ _ _ rfl).2
  | goto off =>
    obtain ⟨tgt, h1, h2⟩ := jb_inv ha
    cases nx_inv h2
    exact sp_goto C d h1 (k1 _ _ _ _ rfl).2
  | ifCond cd off =>
    obtain ⟨x, r, tgt, rfl, h1, rfl⟩ := br1_inv ha
    exact sp_if C d h1 (k1 _ _ _ _ rfl).2
  | if_icmp cd off =>
    obtain ⟨y, x, r, tgt, rfl, h1, rfl⟩ := br2_inv ha
    exact sp_icmp C d h1 (k1 _ _ _ _ rfl).2
  | if_acmp cd off =>
    obtain ⟨y, x, r, tgt, rfl, h0, h1, rfl⟩ := bra_inv ha
    exact sp_acmp C d h0.2 h0.1 h1 (k1 _ _ _ _ rfl).2
  | ifnull off =>
    obtain ⟨r, tgt, h1, ⟨rfl, rfl⟩ | ⟨a, rfl, rfl⟩⟩ := brn_inv ha
    · exact (sp_ifnull C d h1).1 rfl (k1 _ _ _ _ rfl).2
    · exact (sp_ifnull C d h1).2 a rfl (k1 _ _ _ _ rfl).2
  | ifnonnull off =>
    obtain ⟨r, tgt, h1, ⟨rfl, rfl⟩ | ⟨a, rfl, rfl⟩⟩ := brn_inv ha
    · exact (sp_ifnonnull C d h1).1 rfl (k1 _ _ _ _ rfl).2
    · exact (sp_ifnonnull C d h1).2 a rfl (k1 _ _ _ _ rfl).2
  | tableswitch dflt lo hi offs =>
    change ip_tsw dflt lo hi offs pc L st σ = some act at ha
    unfold ip_tsw at ha
    split at ha
    · rename_i x r
      split at ha
      · rename_i h0
        obtain ⟨tgt, h1, h2⟩ := jb_inv ha
        cases nx_inv h2
        exact sp_tsw C d (Or.inl ⟨h0, rfl⟩) h1 (k1 _ _ _ _ rfl).2
      · rename_i h0
        obtain ⟨off, h3, h4⟩ := bd_inv ha
        obtain ⟨tgt, h1, h2⟩ := jb_inv h4
        cases nx_inv h2
        exact sp_tsw C d (Or.inr ⟨h0, h3⟩) h1 (k1 _ _ _ _ rfl).2
    · cases ha
  | getfield idx =>
    change ip_getf aux pc L st σ = some act at ha
    unfold ip_getf at ha
    split at ha
    · rename_i a r k j
      obtain ⟨v, h1, h2⟩ := bd_inv ha
      cases nx_inv h2
      obtain ⟨v1, v2⟩ := V k j rfl
      exact so_get C v1 v2 d h1 (k1 _ _ _ _ rfl).2
    · cases ha
  | putfield idx =>
    change ip_putf aux pc L st σ = some act at ha
    unfold ip_putf at ha
    split at ha
    · rename_i v a r k j
      split at ha
      · rename_i hf
        obtain ⟨σ1, h1, h2⟩ := bd_inv ha
        cases nx_inv h2
        obtain ⟨v1, v2⟩ := V k j rfl
        exact so_put C v1 v2 d hf h1 (k1 _ _ _ _ rfl).2
      · cases ha
    · cases ha
  | getstatic idx =>
    change ip_glob G aux (pc + 3) L st σ = some act at ha
    unfold ip_glob at ha
    split at ha
    · rename_i g
      cases nx_inv ha
      exact so_gets C (V g 0 rfl).2 d (k1 _ _ _ _ rfl).2
    · rename_i g
      exact absurd (V g 1 rfl).1 (by decide)
    · cases ha
  | ldc idx =>
    change ip_glob G aux (pc + 2) L st σ = some act at ha
    unfold ip_glob at ha
    split at ha
    · rename_i g
      cases nx_inv ha
      rcases V g 0 rfl with ⟨-, rfl, h1⟩ | ⟨-, h1⟩ | ⟨h1, -⟩
      · exact so_ldcM C h1 d (k1 _ _ _ _ rfl).2
      · exact so_ldcS C h1 d (k1 _ _ _ _ rfl).2
      · cases h1
    · rename_i g
      cases nx_inv ha
      rcases V g 1 rfl with ⟨h1, -⟩ | ⟨h1, -⟩ | ⟨-, v, h1, h2⟩
      · cases h1
      · cases h1
      · exact so_ldcI C h1 h2 d (k1 _ _ _ _ rfl).2
    · cases ha
  | ldc_w idx =>
    change ip_glob G aux (pc + 3) L st σ = some act at ha
    unfold ip_glob at ha
    split at ha
    · rename_i g
      exact absurd (V g 0 rfl).1 (by decide)
    · rename_i g
      cases nx_inv ha
      obtain ⟨-, v, h1, h2⟩ := V g 1 rfl
      exact so_ldcW C h1 h2 d (k1 _ _ _ _ rfl).2
    · cases ha
  | ldc2_w idx =>
    change ip_glob G aux (pc + 3) L st σ = some act at ha
    unfold ip_glob at ha
    split at ha
    · rename_i g
      exact absurd (V g 0 rfl).1 (by decide)
    · rename_i g
      cases nx_inv ha
      obtain ⟨-, v, h1, h2⟩ := V g 1 rfl
      exact so_ldcJ C h1 h2 d (k1 _ _ _ _ rfl).2
    · cases ha
  | arraylength =>
    change ip_alen pc L st σ = some act at ha
    unfold ip_alen at ha
    split at ha
    · rename_i a r
      obtain ⟨n, h1, h2⟩ := bd_inv ha
      cases nx_inv h2
      exact so_alen C d h1 (k1 _ _ _ _ rfl).2
    · cases ha
  | iaload =>
    change ip_ald .int pc L st σ = some act at ha
    unfold ip_ald at ha
    split at ha
    · rename_i j a r
      split at ha
      · cases ha
      · rename_i hj
        obtain ⟨v, h1, h2⟩ := bd_inv ha
        cases nx_inv h2
        exact so_ald C (Or.inl ⟨rfl, rfl⟩) d hj h1 (k1 _ _ _ _ rfl).2
    · cases ha
  | laload =>
    change ip_ald .long pc L st σ = some act at ha
    unfold ip_ald at ha
    split at ha
    · rename_i j a r
      split at ha
      · cases ha
      · rename_i hj
        obtain ⟨v, h1, h2⟩ := bd_inv ha
        cases nx_inv h2
        exact so_ald C (Or.inr (Or.inl ⟨rfl, rfl⟩)) d hj h1 (k1 _ _ _ _ rfl).2
    · cases ha
  | baload =>
    change ip_ald (if aux = [] then .byte else .boolean) pc L st σ = some act at ha
    unfold ip_ald at ha
    split at ha
    · rename_i j a r
      split at ha
      · cases ha
      · rename_i hj
        obtain ⟨v, h1, h2⟩ := bd_inv ha
        cases nx_inv h2
        exact so_ald C (Or.inr (Or.inr (Or.inl ⟨rfl, by split; exact Or.inl rfl; exact Or.inr rfl⟩))) d hj h1 (k1 _ _ _ _ rfl).2
    · cases ha
  | aaload =>
    unfold ip_act at ha
    dsimp only at ha
    split at ha
    · rename_i k b
      have hr := V k b rfl
      unfold ip_ald at ha
      split at ha
      · rename_i j a r
        split at ha
        · cases ha
        · rename_i hj
          obtain ⟨v, h1, h2⟩ := bd_inv ha
          cases nx_inv h2
          exact so_ald C (Or.inr (Or.inr (Or.inr ⟨rfl, hr⟩))) d hj h1 (k1 _ _ _ _ rfl).2
      · cases ha
    · cases ha
  | iastore =>
    change ip_astI .int pc L st σ = some act at ha
    unfold ip_astI at ha
    split at ha
    · rename_i x j a r
      split at ha
      · cases ha
      · rename_i hj
        obtain ⟨σ1, h1, h2⟩ := bd_inv ha
        cases nx_inv h2
        exact so_astI C (Or.inl ⟨rfl, rfl⟩) d hj h1 (k1 _ _ _ _ rfl).2
    · cases ha
  | bastore =>
    change ip_astI (if aux = [] then .byte else .boolean) pc L st σ = some act at ha
    unfold ip_astI at ha
    split at ha
    · rename_i x j a r
      split at ha
      · cases ha
      · rename_i hj
        obtain ⟨σ1, h1, h2⟩ := bd_inv ha
        cases nx_inv h2
        exact so_astI C (Or.inr ⟨rfl, by split; exact Or.inl rfl; exact Or.inr rfl⟩) d hj h1 (k1 _ _ _ _ rfl).2
    · cases ha
  | lastore =>
    change ip_astJ pc L st σ = some act at ha
    unfold ip_astJ at ha
    split at ha
    · rename_i x j a r
      split at ha
      · cases ha
      · rename_i hj
        obtain ⟨σ1, h1, h2⟩ := bd_inv ha
        cases nx_inv h2
        exact so_astJ C d hj h1 (k1 _ _ _ _ rfl).2
    · cases ha
  | aastore =>
    change ip_astA aux pc L st σ = some act at ha
    unfold ip_astA at ha
    split at ha
    · rename_i v j a r k b ks
      split at ha
      · cases ha
      · rename_i hj
        obtain ⟨kv, h3, h4⟩ := bd_inv ha
        split at h4
        · rename_i hkv
          obtain ⟨σ1, h1, h2⟩ := bd_inv h4
          cases nx_inv h2
          obtain ⟨nm, h5, h6⟩ := V k b ks rfl
          obtain ⟨h7, h8⟩ := h6 kv hkv
          exact so_astA C h5 d hj h3 h7 h8 h1 (k1 _ _ _ _ rfl).2
        · cases h4
    · cases ha
  | new idx =>
    change ip_new aux pc L st σ = some act at ha
    unfold ip_new at ha
    split at ha
    · rename_i k
      cases nx_inv ha
      obtain ⟨v1, v2⟩ := (V k 0 rfl).1 rfl
      obtain ⟨⟨b1, b2⟩, kk⟩ := k1 _ _ _ _ rfl
      exact so_new C v1 v2 d hs hu b1 b2 kk
    · rename_i k
      split at ha
      · rename_i h4
        cases nx_inv ha
        obtain ⟨⟨b1, b2⟩, kk⟩ := k1 _ _ _ _ rfl
        exact so_newX C ((V k 1 rfl).2 rfl) d h4 hs hu b1 b2 kk
      · cases ha
    · cases ha
  | newarray at_ =>
    change ip_newa (newarray.typeOf at_) (defaultValue (newarray.typeOf at_)) (pc + 2) L st σ = some act at ha
    unfold ip_newa at ha
    split at ha
    · rename_i n r
      split at ha
      · cases ha
      · rename_i hn
        cases nx_inv ha
        obtain ⟨⟨b1, b2⟩, kk⟩ := k1 _ _ _ _ rfl
        exact so_newa C V.1 V.2 d hn hs hu b1 b2 kk
    · cases ha
  | anewarray idx =>
    unfold ip_act at ha
    dsimp only at ha
    split at ha
    · rename_i k b
      obtain ⟨nm, v1, v2, v3, v4⟩ := V k b rfl
      rw [v1] at ha
      unfold ip_newa at ha
      split at ha
      · rename_i n r
        split at ha
        · cases ha
        · rename_i hn
          cases nx_inv ha
          obtain ⟨⟨b1, b2⟩, kk⟩ := k1 _ _ _ _ rfl
          exact so_anew C v2 v3 v4 d hn hs hu b1 b2 kk
      · cases ha
    · cases ha
  | multianewarray idx dm =>
    obtain ⟨rfl, v1, v2, v3⟩ := V
    change ip_grid pc L st σ = some act at ha
    unfold ip_grid at ha
    split at ha
    · split at ha
      · rename_i m1 n1 r hmn
        obtain ⟨rfl, rfl⟩ := hmn
        cases nx_inv ha
        obtain ⟨⟨b1, b2⟩, kk⟩ := k1 _ _ _ _ rfl
        exact so_grid C v1 v2 v3 d hs hu b1 b2 kk
      · cases ha
    · cases ha
  | checkcast idx =>
    obtain ⟨nm, v1, v2⟩ := V
    change ip_cast aux pc L st σ = some act at ha
    unfold ip_cast at ha
    split at ha
    · cases nx_inv ha
      exact so_castN C d (k1 _ _ _ _ rfl).2
    · rename_i a r
      obtain ⟨k, h1, h2⟩ := bd_inv ha
      split at h2
      · rename_i hk
        cases nx_inv h2
        rcases v2 k hk with ⟨h3, h4⟩ | h3
        · exact so_cast C v1 h3 h1 h4 d (k1 _ _ _ _ rfl).2
        · exact so_castA C v1 h3 h1 d (k1 _ _ _ _ rfl).2
      · cases h2
    · cases ha
  | instanceof idx =>
    obtain ⟨nm, v1, v2, v3⟩ := V
    change ip_inst aux pc L st σ = some act at ha
    unfold ip_inst at ha
    split at ha
    · cases nx_inv ha
      exact so_instN C d (k1 _ _ _ _ rfl).2
    · rename_i a r
      obtain ⟨k, h1, h2⟩ := bd_inv ha
      split at h2
      · rename_i hk
        cases nx_inv h2
        obtain ⟨h3, h4⟩ := v2 k hk
        exact so_inst1 C v1 h3 h1 h4 d (k1 _ _ _ _ rfl).2
      · split at h2
        · rename_i hk
          cases nx_inv h2
          obtain ⟨h3, h4⟩ := v3 k hk
          exact so_inst0 C v1 h3 h1 h4 d (k1 _ _ _ _ rfl).2
        · cases h2
    · cases ha
  | invokestatic idx =>
    change ip_ivs aux pc L st σ = some act at ha
    unfold ip_ivs at ha
    split at ha
    · rename_i y t'
      obtain ⟨v1, v2⟩ := V y t' rfl
      split at ha
      · rename_i h9
        unfold ip_copy at ha
        split at ha
        · rename_i n dp a1 sp a0 r
          split at ha
          · cases ha
          · rename_i hn
            obtain ⟨σ1, h1, h2⟩ := bd_inv ha
            cases nx_inv h2
            exact so_copy C (v1 h9) V0.1 V0.2.1 V0.2.2.1 V0.2.2.2.1 d (fun h => hn (Or.inl h)) (fun h => hn (Or.inr (Or.inl h))) (fun h => hn (Or.inr (Or.inr (Or.inl h)))) (Nat.le_of_not_lt fun h => hn (Or.inr (Or.inr (Or.inr h)))) h1 (k1 _ _ _ _ rfl).2
        · cases ha
      · rename_i h9
        obtain ⟨q, h1, h2⟩ := bd_inv ha
        obtain ⟨h3, h4, h5⟩ := pk_inv h1
        unfold ip_cl at h2
        split at h2
        · rename_i hok
          exact k3 t' q.1 3 _ none q.2 (Option.some.inj h2).symm (v2 h9) h4 (fun _ h => nomatch h) hok h3 h5
        · cases h2
    · cases ha
  | invokespecial idx =>
    change ip_ivp aux pc L st σ = some act at ha
    unfold ip_ivp at ha
    split at ha
    · rename_i y t'
      obtain ⟨v1, v2⟩ := V y t' rfl
      obtain ⟨⟨q1, q2⟩, h1, h2⟩ := bd_inv ha
      obtain ⟨h3, h4, h5⟩ := pk_inv h1
      dsimp only at h2 h3 h4 h5
      split at h2
      · rename_i a As
        obtain ⟨k, h6, h7⟩ := bd_inv h2
        split at h7
        · rename_i h9
          rw [if_pos h9] at h4
          have hA : As = [] := List.length_eq_zero_iff.mp (Nat.succ.inj h4)
          subst hA
          cases nx_inv h7
          subst h3
          exact so_oinit C V0 (v1 h9) d h5 (k1 _ _ _ _ rfl).2
        · rename_i h9
          split at h7
          · rename_i h8
            unfold ip_cl at h7
            split at h7
            · rename_i hok
              rw [if_neg h9] at h4
              exact k3 t' _ 3 _ _ q2 (Option.some.inj h7).symm (v2 h9) h4 (fun Q hQ => ⟨a, As, k, rfl, by cases hQ; exact trivial, h8, h6⟩) hok h3 h5
            · cases h7
          · cases h7
      · cases h2
    · cases ha
  | invokevirtual idx =>
    change ip_ivv G aux pc L st σ = some act at ha
    unfold ip_ivv at ha
    split at ha
    · rename_i n y vt
      obtain ⟨⟨q1, q2⟩, h1, h2⟩ := bd_inv ha
      obtain ⟨h3, h4, h5⟩ := pk_inv h1
      dsimp only at h2 h3 h4 h5
      split at h2
      · rename_i a As
        obtain ⟨k, h6, h7⟩ := bd_inv h2
        obtain ⟨t', h8, h10⟩ := bd_inv h7
        obtain ⟨v1, v2, v3⟩ := V n y vt rfl k t' h8
        split at h10
        · rename_i h9
          obtain ⟨rfl, rfl, v4⟩ := v1 h9
          have hA : As = [] := List.length_eq_zero_iff.mp (Nat.succ.inj h4)
          subst hA
          subst h3
          obtain ⟨σ1, h11, h12⟩ := bd_inv h10
          cases nx_inv h12
          obtain ⟨⟨b1, b2⟩, kk⟩ := k1 _ _ _ _ rfl
          exact so_clone C v4 d h6 h5 h11 hs hu b1 b2 kk
        · rename_i h9
          split at h10
          · rename_i h9'
            obtain ⟨rfl, rfl, v4⟩ := v2 h9'
            have hA : As = [] := List.length_eq_zero_iff.mp (Nat.succ.inj h4)
            subst hA
            subst h3
            cases nx_inv h10
            exact so_getC C v4 d h6 h5 (k1 _ _ _ _ rfl).2
          · rename_i h9'
            obtain ⟨v4, v5⟩ := v3 h9 h9'
            unfold ip_cl at h10
            split at h10
            · rename_i hok
              exact k3 t' _ 3 _ _ q2 (Option.some.inj h10).symm v5 h4 (fun Q hQ => ⟨a, As, k, rfl, by cases hQ; rfl, v4, h6⟩) hok h3 h5
            · cases h10
      · cases h2
    · cases ha
  | invokeinterface idx cnt =>
    change ip_ivi aux pc L st σ = some act at ha
    unfold ip_ivi at ha
    split at ha
    · rename_i n y vt
      obtain ⟨⟨q1, q2⟩, h1, h2⟩ := bd_inv ha
      obtain ⟨h3, h4, h5⟩ := pk_inv h1
      dsimp only at h2 h3 h4 h5
      split at h2
      · rename_i a As
        obtain ⟨k, h6, h7⟩ := bd_inv h2
        obtain ⟨t', h8, h10⟩ := bd_inv h7
        obtain ⟨v4, v5⟩ := V n y vt rfl k t' h8
        unfold ip_cl at h10
        split at h10
        · rename_i hok
          exact k3 t' _ 5 _ _ q2 (Option.some.inj h10).symm v5 h4 (fun Q hQ => ⟨a, As, k, rfl, by cases hQ; rfl, v4, h6⟩) hok h3 h5
        · cases h10
      · cases h2
    · cases ha
  | ireturn =>
    change ip_ret1 (tb_ret t) st σ = some act at ha
    unfold ip_ret1 at ha
    split at ha
    · rename_i v
      split at ha
      · rename_i hr
        have ea : act = .inr (.inl (some v, σ)) := (Option.some.inj ha).symm
        obtain ⟨x, rfl⟩ := V v hr
        exact k2 _ ea (Or.inr (Or.inl ⟨x, rfl, rfl, d, hr⟩))
      · cases ha
    · cases ha
  | lreturn =>
    change ip_ret1 (tb_ret t) st σ = some act at ha
    unfold ip_ret1 at ha
    split at ha
    · rename_i v
      split at ha
      · rename_i hr
        have ea : act = .inr (.inl (some v, σ)) := (Option.some.inj ha).symm
        have hr2 := hr
        rw [V] at hr2
        cases v with
        | long x => exact k2 _ ea (Or.inr (Or.inr (Or.inl ⟨x, rfl, rfl, d, V⟩)))
        | _ => cases hr2
      · cases ha
    · cases ha
  | dreturn =>
    change ip_ret1 (tb_ret t) st σ = some act at ha
    unfold ip_ret1 at ha
    split at ha
    · rename_i v
      split at ha
      · rename_i hr
        have ea : act = .inr (.inl (some v, σ)) := (Option.some.inj ha).symm
        have hr2 := hr
        rw [V] at hr2
        cases v with
        | double x => exact k2 _ ea (Or.inr (Or.inr (Or.inr (Or.inl ⟨x, rfl, rfl, d, V⟩))))
        | _ => cases hr2
      · cases ha
    · cases ha
  | areturn =>
    change ip_ret1 (tb_ret t) st σ = some act at ha
    unfold ip_ret1 at ha
    split at ha
    · rename_i v
      split at ha
      · rename_i hr
        have ea : act = .inr (.inl (some v, σ)) := (Option.some.inj ha).symm
        have hv : v = .null ∨ ∃ a, v = .ref a := by
          rcases V with ⟨n, h1⟩ | ⟨n, h1⟩
          · rw [h1] at hr
            cases v with
            | ref a => exact Or.inr ⟨a, rfl⟩
            | null => exact Or.inl rfl
            | int x => simp [ip_rok] at hr
            | _ => cases hr
          · rw [h1] at hr
            cases v with
            | ref a => exact Or.inr ⟨a, rfl⟩
            | null => exact Or.inl rfl
            | int x => simp [ip_rok] at hr
            | _ => cases hr
        exact k2 _ ea (Or.inr (Or.inr (Or.inr (Or.inr ⟨v, rfl, rfl, hv, d, V⟩))))
      · cases ha
    · cases ha
  | return_ =>
    change ip_ret0 (tb_ret t) st σ = some act at ha
    unfold ip_ret0 at ha
    split at ha
    · split at ha
      · rename_i hr
        exact k2 none (Option.some.inj ha).symm (Or.inl ⟨rfl, rfl, d, hr⟩)
      · cases ha
    · cases ha
  | athrow =>
    change ip_thr st σ = some act at ha
    unfold ip_thr at ha
    split at ha
    · rename_i a r
      obtain ⟨k, h1, h2⟩ := bd_inv ha
      split at h2
      · rename_i hx
        exact k4 k a r (Option.some.inj h2).symm rfl h1 hx d
      · cases h2
    · cases ha
  | _ =>
    exact absurd (show (none : Option ip_Act) = some act from ha) (by simp)
end STEP
