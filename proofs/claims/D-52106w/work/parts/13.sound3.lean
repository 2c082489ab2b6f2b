/-! SOUNDNESS, 3: fields, statics, constants, arrays, new cells, casts -/
/-- the words of class number k -/
def vd_C (k : Nat) : Prop := ∃ (C : String) (T : u_T) (N : Nat), sd_cl[k]? = some (C, T, N) ∧ (∀ w ∈ u_ws C T N, w ∈ lw_all) ∧ (∀ j, j < N → parseFieldDescriptor (T j).2.2.1 = some (tb_fty k j)) ∧ (∀ a, a < N → ∀ b, b < N → a ≠ b → (T a).2.1 ≠ (T b).2.1) ∧
  tb_dfl k = (List.range N).map (fun j => defaultValue (tb_fty k j)) ∧ Cond.instantiable C N ∈ lw_all ∧ Cond.initialized C ∈ lw_all
def vd_fl (own : String) (idx : Nat) (ref name desc : String) : Prop := Cond.fieldLink own idx ref name desc ∈ lw_all ∨ ∃ host, Cond.fieldLinkNest own idx ref name desc host ∈ lw_tbl
def vd_sm (ref d name desc : String) : Prop := ref = d ∨ Cond.sameField ref d name desc ∈ lw_all
/-- the field j of class k, by the entry idx of method t's class -/
def vd_G (own : String) (idx k j : Nat) : Prop := ∃ (C : String) (T : u_T) (N : Nat) (ref : String), sd_cl[k]? = some (C, T, N) ∧ j < N ∧ vd_fl own idx ref (T j).2.1 (T j).2.2.1 ∧ vd_sm ref (T j).1 (T j).2.1 (T j).2.2.1
def vd_P (own mn : String) (idx k j : Nat) : Prop := ∃ (C : String) (T : u_T) (N : Nat) (ref : String), sd_cl[k]? = some (C, T, N) ∧ j < N ∧ vd_fl own idx ref (T j).2.1 (T j).2.2.1 ∧ vd_sm ref (T j).1 (T j).2.1 (T j).2.2.1 ∧ ((T j).2.2.2 = false ∨ ((T j).2.2.2 = true ∧ mn = "<init>" ∧ (T j).1 = own ∧ Cond.fieldLink own idx ref (T j).2.1 (T j).2.2.1 ∈ lw_all))
section SD3
variable {G : Nat → Value} {D : sd_D} {H0 : Heap} {p : Program} {l : Launch} {e : Env} {R : Room} {s : State} {m : MethodId} {args : Array Value} {below : List Frame} {meth : Method} {c : Code} {t : Nat}
variable {u0 : Nat} {Q : State → Prop} {σ σ' : AH} {pc pc' : Nat} {L L' : List (Option Value)} {st st' : List Value} {i : Instr} {aux : List (Nat × Nat)}
theorem sd_CX.hts (C : sd_CX G D H0 p l R s m args meth c t) : ∀ w ∈ lw_all, w.before args s = true := C.2.2.2.2.2.1
theorem sd_CX.own (C : sd_CX G D H0 p l R s m args meth c t) : s.vm.findClass (mt_y t).cls = some m.cls := C.2.2.2.2.1
theorem sd_CX.ml (C : sd_CX G D H0 p l R s m args meth c t) : c.maxLocals = tb_maxl t := C.2.2.2.1
theorem sd_CX.ret (C : sd_CX G D H0 p l R s m args meth c t) : meth.sig.returnType = tb_ret t := C.2.2.1
theorem sd_CX.locks (C : sd_CX G D H0 p l R s m args meth c t) : meth.locks = false := C.2.2.2.2.2.2.1
theorem sd_CX.name (C : sd_CX G D H0 p l R s m args meth c t) : meth.name = (mt_y t).name := C.2.2.2.2.2.2.2.1
theorem sd_CX.K (C : sd_CX G D H0 p l R s m args meth c t) : sd_K G D H0 s := C.2.2.2.2.2.2.2.2.2.1
theorem sd_CX.fr (C : sd_CX G D H0 p l R s m args meth c t) : 20 ≤ R.frames ∧ 400 ≤ R.locals := C.2.2.2.2.2.2.2.2.2.2.2
/-- a word of the tables that rides -/
theorem sd_CX.rd (C : sd_CX G D H0 p l R s m args meth c t) {w : Cond} (hw : w ∈ lw_tbl) (hr : sd_ride w = true) : va_Nw w s := C.K.2.2.1 w hw hr
theorem fld_inv {a k j : Nat} {v : Value} (h : ah_fld σ a k j = some v) : ∃ (b : Bool) (vs : List Value), σ.1 a = some (b, .inr (k, vs)) ∧ vs[j]? = some v := by
  unfold ah_fld at h
  split at h
  · rename_i b k' vs e
    split at h
    · rename_i hk
      subst hk
      exact ⟨b, vs, e, h⟩
    · cases h
  · cases h
theorem same_of (C : sd_CX G D H0 p l R s m args meth c t) {ref d name desc : String} (h : vd_sm ref d name desc) : ∀ x, s.fieldFound? d name desc = some x → s.fieldFound? ref name desc = some x := by
  rcases h with rfl | h
  · exact fun _ q => q
  · exact fun x q => u_same (C.hts _ h) x q
theorem so_get (C : sd_CX G D H0 p l R s m args meth c t) {idx k j a : Nat} {v : Value} (V : vd_G (mt_y t).cls idx k j) (VC : vd_C k) (d : sd_at t pc (.getfield idx) 3) (hf : ah_fld σ a k j = some v) (kk : sd_W D H0 p l e R s m args below meth c t u0 Q σ (pc + 3) L (v :: st)) : sd_W D H0 p l e R s m args below meth c t u0 Q σ pc L (.ref a :: st) := by
  intro H locs ls hH hl hL
  obtain ⟨b, vs, hc, hv⟩ := fld_inv hf
  obtain ⟨C1, T, N, ref, h1, h2, h3, h4⟩ := V
  obtain ⟨C2, T2, N2, g1, g2, -⟩ := VC
  cases h1.symm.trans g1
  obtain ⟨r, r1, r2, r3⟩ := (hH.2.2.2 a b _ hc).1
  have hP : va_P D.1 sd_cl [(a, .inr (k, vs))] H := by
    intro x q hq
    match x, hq with
    | 0, hq => cases hq; exact ⟨r, r1, r3⟩
    | x + 1, hq => simp at hq
  rcases h3 with h3 | ⟨host, h3⟩
  · exact va_get C.1 C.2.1 C.hts g2 C.own C.K.1 hP 0 rfl h1 j h2 (C.hts _ h3) (same_of C h4) hv d (kk H locs ls hH hl hL)
  · exact va_getN C.1 C.2.1 C.hts g2 C.own C.K.1 hP 0 rfl h1 j h2 (va_Nw.use rfl (C.rd h3 rfl)) (same_of C h4) hv d (kk H locs ls hH hl hL)
theorem put_inv {a k j : Nat} {v : Value} (h : ah_put σ a k j v = some σ') : ∃ (vs : List Value), σ.1 a = some (true, .inr (k, vs)) ∧ j < vs.length ∧ σ' = ah_set σ a (.inr (k, vs.set j v)) := by
  unfold ah_put at h
  split at h
  · rename_i k' vs e
    split at h
    · rename_i hk
      obtain ⟨rfl, hj⟩ := hk
      exact ⟨vs, e, hj, (Option.some.inj h).symm⟩
    · cases h
  · cases h
theorem so_put (C : sd_CX G D H0 p l R s m args meth c t) {idx k j a : Nat} {v : Value} (V : vd_P (mt_y t).cls (mt_y t).name idx k j) (VC : vd_C k) (d : sd_at t pc (.putfield idx) 3) (hfit : ip_fit (tb_fty k j) v = true) (hf : ah_put σ a k j v = some σ') (kk : sd_W D H0 p l e R s m args below meth c t u0 Q σ' (pc + 3) L st) : sd_W D H0 p l e R s m args below meth c t u0 Q σ pc L (v :: .ref a :: st) := by
  intro H locs ls hH hl hL
  obtain ⟨vs, hc, hj, rfl⟩ := put_inv hf
  obtain ⟨C1, T, N, ref, h1, h2, h3, h4, h5⟩ := V
  obtain ⟨C2, T2, N2, g1, hin, hty, hnm, -⟩ := VC
  cases h1.symm.trans g1
  simp only [ip_fit, Bool.and_eq_true, decide_eq_true_eq] at hfit
  obtain ⟨hn, hft⟩ := hfit
  obtain ⟨⟨r, r1, r2, r3⟩, hB⟩ := hH.2.2.2 a true _ hc
  cases r1.symm.trans h1
  have hB := hB rfl
  obtain ⟨cell, q1, q2, q3, q4⟩ := r3
  have hap := va_apart (own := (mt_y t).cls) C.hts hin (tb_fty k) hty hnm C.K.1 h1
  obtain ⟨hS, hfc, kC, hkC, hkind⟩ := C.K.1.1 k _ h1
  obtain ⟨cf, kf, fi, f, hi, hsl⟩ := hS j h2
  have hst := (u_facts hfc hkC (u_lays C.hts hin h2) hi).1
  have fin : ∀ H' : Heap, H'[a]? = some (cell.setSlot f.slot v) → H'.size = H.size → (∀ q : Nat, q ≠ a → H'[q]? = H[q]?) → sd_H D H0.size H0 (ah_set σ a (.inr (k, vs.set j v))) H' := by
    intro H' e1 e2 e3
    rw [hsl] at e1
    refine hH.set hc ⟨_, h1, by rw [List.length_set]; exact r2, ?_⟩ e2 e3
    exact t_OB.to (V := updV (vp_V vs) j v) ⟨_, e1, q2, q3, t_set q4 hap h2 v⟩ (fun x _ => vp_updV_set hj v x)
  have hlocs : ∀ q ∈ locs ++ [⟨a, f.slot⟩], H0.size ≤ q.base := by
    intro q hq
    rcases List.mem_append.mp hq with h | h
    · exact hl q h
    · rw [List.mem_singleton.mp h]; exact hB
  have hslot : f.slot < cell.slots.size := by rw [hsl]; exact k2_hasslot (q4 j h2)
  rcases h5 with h5 | ⟨h5, h6, h7, h8⟩
  · have hlay := C.hts _ (hin _ (u_in_lay h2))
    unfold u_lay at hlay
    rw [if_neg (by rw [h5]; decide)] at hlay
    have hs6 := u_store hfc hkC hkind hlay hi (hty j h2) hn hft
    rcases h3 with h3 | ⟨host, h3⟩
    · exact W.putK C.1 C.2.1 (f := f) ⟨C.own, C.hts _ h3, ⟨_, _, _, same_of C h4 _ hi⟩, hst⟩ (by rw [q2]; exact hs6) q1 q3 hslot rfl rfl d fun H' e1 e2 e3 => kk H' _ ls (fin H' e1 e2 e3) hlocs hL
    · exact va_WputK C.1 C.2.1 (f := f) C.own (va_Nw.use rfl (C.rd h3 rfl)) (same_of C h4 _ hi) hst (by rw [q2]; exact hs6) q1 q3 hslot rfl rfl d fun H' e1 e2 e3 => kk H' _ ls (fin H' e1 e2 e3) hlocs hL
  · have hlay := C.hts _ (hin _ (u_in_lay h2))
    unfold u_lay at hlay
    rw [if_pos h5] at hlay
    have hcf : m.cls = cf := by
      obtain ⟨_, _, c', _, _, _, -, -, hf', -, -, -, hown2, -⟩ := Cond.laysFinal_spec hlay
      have e1 : c' = cf := by have := hi.symm.trans hf'; simp at this; exact this.1.symm
      rw [h7] at hown2
      rw [← e1]; exact Option.some.inj (C.own.symm.trans hown2)
    have hs6 := u_fits hfc hkC hkind (Or.inr hlay) hi (hty j h2) hn hft
    exact W.putFinK C.1 C.2.1 C.own (C.hts _ h8) (same_of C h4 _ hi) hst hcf (by rw [C.name]; exact h6) (by rw [q2]; exact hs6) q1 q3 hslot rfl rfl d fun H' e1 e2 e3 => kk H' _ ls (fin H' e1 e2 e3) hlocs hL
/-- a static field, by its number -/
def vd_S (own : String) (idx g : Nat) : Prop := ∃ C n d ref : String, (g, C, n, d) ∈ sd_st ∧ Cond.fieldLink own idx ref n d ∈ lw_all ∧ vd_sm ref C n d
theorem so_gets (C : sd_CX G D H0 p l R s m args meth c t) {idx g : Nat} (V : vd_S (mt_y t).cls idx g) (d : sd_at t pc (.getstatic idx) 3) (kk : sd_W D H0 p l e R s m args below meth c t u0 Q σ (pc + 3) L (G g :: st)) : sd_W D H0 p l e R s m args below meth c t u0 Q σ pc L st := by
  intro H locs ls hH hl hL
  obtain ⟨C1, n, dd, ref, h1, h2, h3⟩ := V
  obtain ⟨cf, kf, fi, f, a, cell, g1, g2, g3, g4, g5, g6, g7, g8⟩ := C.K.2.2.2.2.2.1 _ h1
  exact W.gets C.1 C.2.1 C.own (C.hts _ h2) (same_of C h3 _ g1) g2 g3 g4 (by rw [hH.2.2.1 a (Nat.not_le.mp g8)]; exact g5) (fun e => by rw [e] at g6; cases g6) g7 rfl d (kk H locs ls hH hl hL)
def vd_T (own : String) (idx g : Nat) : Prop := ∃ tx : String, (g, own, idx, tx) ∈ sd_sr
theorem so_ldcS (C : sd_CX G D H0 p l R s m args meth c t) {idx g : Nat} (V : vd_T (mt_y t).cls idx g) (d : sd_at t pc (.ldc idx) 2) (kk : sd_W D H0 p l e R s m args below meth c t u0 Q σ (pc + 2) L (G g :: st)) : sd_W D H0 p l e R s m args below meth c t u0 Q σ pc L st := by
  intro H locs ls hH hl hL
  obtain ⟨tx, h1⟩ := V
  obtain ⟨a, h2, h3⟩ := C.K.2.2.2.2.2.2.1 _ h1
  have k1 := kk H locs ls hH hl hL
  rw [h2] at k1
  exact va_ldcS C.1 C.2.1 C.own h3 d k1
theorem so_ldcM (C : sd_CX G D H0 p l R s m args meth c t) {idx : Nat} (V : Cond.classLink (mt_y t).cls idx "[Ljava/lang/Object;" ∈ lw_all) (d : sd_at t pc (.ldc idx) 2) (kk : sd_W D H0 p l e R s m args below meth c t u0 Q σ (pc + 2) L (G 0 :: st)) : sd_W D H0 p l e R s m args below meth c t u0 Q σ pc L st := by
  intro H locs ls hH hl hL
  obtain ⟨mi, h2, h3⟩ := C.K.2.2.2.2.2.2.2.1
  have k1 := kk H locs ls hH hl hL
  rw [h2] at k1
  exact va_ldcM C.1 C.2.1 C.own (C.hts _ V) h3 d k1
theorem so_ldcI (C : sd_CX G D H0 p l R s m args meth c t) {idx g : Nat} {v : Int32} (V : Cond.constant (mt_y t).cls idx v ∈ lw_all) (hv : tb_cst g = .int v) (d : sd_at t pc (.ldc idx) 2) (kk : sd_W D H0 p l e R s m args below meth c t u0 Q σ (pc + 2) L (tb_cst g :: st)) : sd_W D H0 p l e R s m args below meth c t u0 Q σ pc L st := by
  rw [hv] at kk
  exact fun H locs ls hH hl hL => lv_ldc C.1 C.2.1 C.own (C.hts _ V) d (kk H locs ls hH hl hL)
theorem so_ldcW (C : sd_CX G D H0 p l R s m args meth c t) {idx g : Nat} {v : Int32} (V : Cond.constant (mt_y t).cls idx v ∈ lw_all) (hv : tb_cst g = .int v) (d : sd_at t pc (.ldc_w idx) 3) (kk : sd_W D H0 p l e R s m args below meth c t u0 Q σ (pc + 3) L (tb_cst g :: st)) : sd_W D H0 p l e R s m args below meth c t u0 Q σ pc L st := by
  rw [hv] at kk
  exact fun H locs ls hH hl hL => lv_ldcw C.1 C.2.1 C.own (C.hts _ V) d (kk H locs ls hH hl hL)
theorem so_ldcJ (C : sd_CX G D H0 p l R s m args meth c t) {idx g : Nat} {v : Int64} (V : Cond.constantLong (mt_y t).cls idx v ∈ lw_all) (hv : tb_cst g = .long v) (d : sd_at t pc (.ldc2_w idx) 3) (kk : sd_W D H0 p l e R s m args below meth c t u0 Q σ (pc + 3) L (tb_cst g :: st)) : sd_W D H0 p l e R s m args below meth c t u0 Q σ pc L st := by
  rw [hv] at kk
  exact fun H locs ls hH hl hL => lv_ldc2 C.1 C.2.1 C.own (C.hts _ V) d (kk H locs ls hH hl hL)
/-! arrays -/
theorem len_inv {a n : Nat} (h : ah_len σ a = some n) : ∃ (b : Bool) (ty : FieldType) (f : Nat → Value), σ.1 a = some (b, .inl (ty, n, f)) := by
  unfold ah_len at h
  split at h
  · rename_i b ty n' f e
    cases h
    exact ⟨b, ty, f, e⟩
  · cases h
theorem so_alen (C : sd_CX G D H0 p l R s m args meth c t) {a n : Nat} (d : sd_at t pc .arraylength 1) (hf : ah_len σ a = some n) (kk : sd_W D H0 p l e R s m args below meth c t u0 Q σ (pc + 1) L (.int (Int32.ofNat n) :: st)) : sd_W D H0 p l e R s m args below meth c t u0 Q σ pc L (.ref a :: st) := by
  intro H locs ls hH hl hL
  obtain ⟨b, ty, f, hc⟩ := len_inv hf
  obtain ⟨h1, h2, h3⟩ := (hH.2.2.2 a b _ hc).1
  exact W.alen (n := Int32.ofNat n) C.1 C.2.1 h3 ((C.K.2.1 ty h1).1 n f) (by rw [arrV_size]) rfl rfl d (kk H locs ls hH hl hL)
theorem ald_inv {a j : Nat} {ty : FieldType} {v : Value} (h : ah_ald σ a ty j = some v) : ∃ (b : Bool) (n : Nat) (f : Nat → Value), σ.1 a = some (b, .inl (ty, n, f)) ∧ j < n ∧ v = f j := by
  unfold ah_ald at h
  split at h
  · rename_i b ty' n f e
    split at h
    · rename_i hk
      obtain ⟨rfl, hj⟩ := hk
      cases h
      exact ⟨b, n, f, e, hj, rfl⟩
    · cases h
  · cases h
theorem so_ald (C : sd_CX G D H0 p l R s m args meth c t) {ty : FieldType} {ins : Instr} (hi : (ins = .iaload ∧ ty = .int) ∨ (ins = .laload ∧ ty = .long) ∨ (ins = .baload ∧ (ty = .byte ∨ ty = .boolean)) ∨ (ins = .aaload ∧ ty.isReference = true)) {a : Nat} {j : Int32} {v : Value} (d : sd_at t pc ins 1) (hj : ¬ j < 0) (hf : ah_ald σ a ty j.toNatClampNeg = some v) (kk : sd_W D H0 p l e R s m args below meth c t u0 Q σ (pc + 1) L (v :: st)) : sd_W D H0 p l e R s m args below meth c t u0 Q σ pc L (.int j :: .ref a :: st) := by
  intro H locs ls hH hl hL
  obtain ⟨b, n, f, hc, hn, rfl⟩ := ald_inv hf
  obtain ⟨h1, h2, h3⟩ := (hH.2.2.2 a b _ hc).1
  have hin : ¬ (j < 0 ∨ (arrV (D.2 ty) n f).slots.size ≤ j.toNatClampNeg) := by
    rw [arrV_size]
    rintro (q | q)
    · exact hj q
    · omega
  have hv : (arrV (D.2 ty) n f).slots[j.toNatClampNeg]? = some (f j.toNatClampNeg) := arrV_read _ _ hn
  have harr := (C.K.2.1 ty h1).1 n f
  have hk : (arrV (D.2 ty) n f).vm ≠ .unknown := fun q => by cases q
  have k1 := kk H locs ls hH hl hL
  rcases hi with ⟨rfl, rfl⟩ | ⟨rfl, rfl⟩ | ⟨rfl, rfl | rfl⟩ | ⟨rfl, hr⟩
  · exact W.iald C.1 C.2.1 h3 harr hk hin hv rfl rfl d k1
  · exact W.lald C.1 C.2.1 h3 harr hk hin hv rfl rfl d k1
  · exact W.bald C.1 C.2.1 h3 harr hk hin hv rfl rfl d k1
  · exact W.zald C.1 C.2.1 h3 harr hk hin hv rfl rfl d k1
  · exact W.aald C.1 C.2.1 h3 harr hr hk hin hv rfl rfl d k1
theorem ast_inv {a j : Nat} {ty : FieldType} {v : Value} (h : ah_ast σ a ty j v = some σ') : ∃ (n : Nat) (f : Nat → Value), σ.1 a = some (true, .inl (ty, n, f)) ∧ j < n ∧ σ' = ah_set σ a (.inl (ty, n, va_up f j v)) := by
  unfold ah_ast at h
  split at h
  · rename_i ty' n f e
    split at h
    · rename_i hk
      obtain ⟨rfl, hj⟩ := hk
      exact ⟨n, f, e, hj, (Option.some.inj h).symm⟩
    · cases h
  · cases h
theorem up_eq (f : Nat → Value) (j : Nat) (v : Value) : updV f j v = va_up f j v := by
  funext q
  simp [updV, va_up]
theorem ast_heap {H H' : Heap} {a n j : Nat} {ty : FieldType} {f : Nat → Value} {v : Value} (hH : sd_H D H0.size H0 σ H) (hc : σ.1 a = some (true, .inl (ty, n, f))) (hv : fits ty v = true) (e1 : H'[a]? = some ((arrV (D.2 ty) n f).setSlot j v)) (e2 : H'.size = H.size) (e3 : ∀ q : Nat, q ≠ a → H'[q]? = H[q]?) : sd_H D H0.size H0 (ah_set σ a (.inl (ty, n, va_up f j v))) H' := by
  obtain ⟨h1, h2, h3⟩ := (hH.2.2.2 a true _ hc).1
  refine hH.set hc ⟨h1, fun q hq => ?_, ?_⟩ e2 e3
  · show fits ty (va_up f j v q) = true
    unfold va_up
    split
    · exact hv
    · exact h2 q hq
  · rw [e1, arrV_store, up_eq]
theorem loc_app {locs : List Loc} {a j : Nat} (hl : ∀ q ∈ locs, H0.size ≤ q.base) (ha : H0.size ≤ a) : ∀ q ∈ locs ++ [⟨a, j⟩], H0.size ≤ q.base := by
  intro q hq
  rcases List.mem_append.mp hq with h | h
  · exact hl q h
  · rw [List.mem_singleton.mp h]; exact ha
theorem so_astI (C : sd_CX G D H0 p l R s m args meth c t) {ty : FieldType} {ins : Instr} (hi : (ins = .iastore ∧ ty = .int) ∨ (ins = .bastore ∧ (ty = .byte ∨ ty = .boolean))) {a : Nat} {j x : Int32} (d : sd_at t pc ins 1) (hj : ¬ j < 0) (hf : ah_ast σ a ty j.toNatClampNeg (.int (vp_nar ty x)) = some σ') (kk : sd_W D H0 p l e R s m args below meth c t u0 Q σ' (pc + 1) L st) : sd_W D H0 p l e R s m args below meth c t u0 Q σ pc L (.int x :: .int j :: .ref a :: st) := by
  intro H locs ls hH hl hL
  obtain ⟨n, f, hc, hn, rfl⟩ := ast_inv hf
  obtain ⟨⟨h1, h2, h3⟩, hB⟩ := hH.2.2.2 a true _ hc
  have hB := hB rfl
  have hin : ¬ (j < 0 ∨ (arrV (D.2 ty) n f).slots.size ≤ j.toNatClampNeg) := by
    rw [arrV_size]
    rintro (q | q)
    · exact hj q
    · omega
  have harr := (C.K.2.1 ty h1).1 n f
  have hk : (arrV (D.2 ty) n f).vm ≠ .unknown := fun q => by cases q
  rcases hi with ⟨rfl, rfl⟩ | ⟨rfl, rfl | rfl⟩
  · exact W.iast C.1 C.2.1 h3 harr hk hin rfl rfl d fun H' e1 e2 e3 => kk H' _ ls (ast_heap hH hc rfl e1 e2 e3) (loc_app hl hB) hL
  · exact W.bast C.1 C.2.1 h3 harr hk hin rfl rfl d fun H' e1 e2 e3 => kk H' _ ls (ast_heap hH hc (by rw [vp_nar_byte]; exact pk_fb x) (by rw [e1, vp_nar_byte]; rfl) e2 e3) (loc_app hl hB) hL
  · refine W.zast C.1 C.2.1 h3 harr hk hin rfl rfl d fun H' e1 e2 e3 => kk H' _ ls (ast_heap hH hc ?_ (by rw [e1]; rfl) e2 e3) (loc_app hl hB) hL
    exact fits_narrow_boolean x
theorem so_astJ (C : sd_CX G D H0 p l R s m args meth c t) {a : Nat} {j : Int32} {x : Int64} (d : sd_at t pc .lastore 1) (hj : ¬ j < 0) (hf : ah_ast σ a .long j.toNatClampNeg (.long x) = some σ') (kk : sd_W D H0 p l e R s m args below meth c t u0 Q σ' (pc + 1) L st) : sd_W D H0 p l e R s m args below meth c t u0 Q σ pc L (.long x :: .int j :: .ref a :: st) := by
  intro H locs ls hH hl hL
  obtain ⟨n, f, hc, hn, rfl⟩ := ast_inv hf
  obtain ⟨⟨h1, h2, h3⟩, hB⟩ := hH.2.2.2 a true _ hc
  have hB := hB rfl
  have hin : ¬ (j < 0 ∨ (arrV (D.2 .long) n f).slots.size ≤ j.toNatClampNeg) := by
    rw [arrV_size]
    rintro (q | q)
    · exact hj q
    · omega
  exact W.last C.1 C.2.1 h3 ((C.K.2.1 .long h1).1 n f) (fun q => by cases q) hin rfl rfl d fun H' e1 e2 e3 => kk H' _ ls (ast_heap hH hc rfl e1 e2 e3) (loc_app hl hB) hL
/-- a class that another may stand for -/
def vd_A (k : Nat) (nm : String) : Prop := ∃ (C : String) (T : u_T) (N : Nat), sd_cl[k]? = some (C, T, N) ∧ (C = nm ∨ Cond.castable C nm ∈ lw_tbl)
theorem sd_asg (C : sd_CX G D H0 p l R s m args meth c t) {k : Nat} {nm : String} (V : vd_A k nm) {comp : ClassId} (hc : s.vm.findClass nm = some comp) : s.vm.assignable (D.1.1 k) comp = true := by
  obtain ⟨C1, T, N, h1, h2⟩ := V
  have hat := (C.K.1.1 k _ h1).2
  rcases h2 with rfl | h2
  · cases hc.symm.trans hat.1
    exact va_assign hat
  · obtain ⟨c0, t0, f1, f2, f3⟩ := Cond.castable_spec (va_Nw.use (A := args) rfl (C.rd h2 rfl))
    cases hat.1.symm.trans f1
    cases hc.symm.trans f2
    exact f3
theorem cls_inv {a k : Nat} (hk : k < 1000) (h : ah_cls σ a = some k) : ∃ (b : Bool) (vs : List Value), σ.1 a = some (b, .inr (k, vs)) := by
  unfold ah_cls at h
  split at h
  · rename_i b k' vs e
    cases h
    exact ⟨b, vs, e⟩
  · rename_i ty n f e
    cases h
    exfalso
    unfold ah_tyn at hk
    split at hk
    · omega
    · split at hk <;> omega
    · omega
  · cases h
/-- the cell of an object -/
theorem sd_obj {H : Heap} (C : sd_CX G D H0 p l R s m args meth c t) (hH : sd_H D H0.size H0 σ H) {a k : Nat} (hk : k < 1000) (h : ah_cls σ a = some k) : ∃ (cell : Cell) (r : vw_C), sd_cl[k]? = some r ∧ H[a]? = some cell ∧ cell.vm = .none ∧ cell.cls = D.1.1 k ∧ ClassAt s r.1 (D.1.1 k) := by
  obtain ⟨b, vs, hc⟩ := cls_inv hk h
  obtain ⟨r, r1, r2, cell, q1, q2, q3, -⟩ := (hH.2.2.2 a b _ hc).1
  exact ⟨cell, r, r1, q1, q3, q2, (C.K.1.1 k _ r1).2⟩
theorem so_astA (C : sd_CX G D H0 p l R s m args meth c t) {ty : FieldType} {nm : String} (hty : ty = .object nm) {a v kv : Nat} {j : Int32} (d : sd_at t pc .aastore 1) (hj : ¬ j < 0) (hv : ah_cls σ v = some kv) (hkv : kv < 1000) (V : vd_A kv nm) (hf : ah_ast σ a ty j.toNatClampNeg (.ref v) = some σ') (kk : sd_W D H0 p l e R s m args below meth c t u0 Q σ' (pc + 1) L st) : sd_W D H0 p l e R s m args below meth c t u0 Q σ pc L (.ref v :: .int j :: .ref a :: st) := by
  intro H locs ls hH hl hL
  subst hty
  obtain ⟨n, f, hc, hn, rfl⟩ := ast_inv hf
  obtain ⟨⟨h1, h2, h3⟩, hB⟩ := hH.2.2.2 a true _ hc
  have hB := hB rfl
  obtain ⟨cell, r, r1, q1, q2, q3, hat, kC, hkC, -⟩ := sd_obj C hH hkv hv
  obtain ⟨kA, comp, k1, k2, k3, k4⟩ := (C.K.2.1 _ h1).2
  obtain ⟨kE, hkE, -⟩ := Vm.findClass_spec k3
  exact W.aast C.1 C.2.1 h3 (fun q h => by cases h) (fun h => by cases h) k1 k2 rfl hkE ⟨hj, by rw [arrV_size]; exact hn⟩ q1 (fun q h => by rw [q2] at h; cases h) (by rw [q3]; exact hkC) (by rw [q3]; exact sd_asg C V k3) rfl rfl d fun H' e1 e2 e3 => kk H' _ ls (ast_heap hH hc rfl e1 e2 e3) (loc_app hl hB) hL
/-! new cells -/
def vd_N (own : String) (idx k : Nat) : Prop := ∃ (C : String) (T : u_T) (N : Nat), sd_cl[k]? = some (C, T, N) ∧ Cond.classLink own idx C ∈ lw_all
theorem so_new (C : sd_CX G D H0 p l R s m args meth c t) {idx k : Nat} (V : vd_N (mt_y t).cls idx k) (VC : vd_C k) (d : sd_at t pc (.new idx) 3) (hs : s.heap.size ≤ σ.2.1) (hu : u0 ≤ σ.2.2) (hr1 : σ.2.1 + 1 - s.heap.size ≤ R.cells) (hr2 : σ.2.2 + (tb_dfl k).length - u0 ≤ R.slots)
    (kk : sd_W D H0 p l e R s m args below meth c t u0 Q (ah_new σ (.inr (k, tb_dfl k)) (tb_dfl k).length) (pc + 3) L (.ref σ.2.1 :: st)) : sd_W D H0 p l e R s m args below meth c t u0 Q σ pc L st := by
  intro H locs ls hH hl hL
  obtain ⟨C1, T, N, h1, h2⟩ := V
  obtain ⟨C2, T2, N2, g1, hin, hty, hnm, hdf, hins, hini⟩ := VC
  cases h1.symm.trans g1
  have hN : (tb_dfl k).length = N := by rw [hdf]; simp
  have hKn := C.K.1.1 k _ h1
  rw [hN] at hr2
  refine W.newcK C.1 C.2.1 C.own (C.hts _ h2) (C.hts _ hins) (C.hts _ hini) rfl d (by omega) (by omega) hKn.2.1 hH.1 fun H1 kC hkC e1 z1 o1 => ?_
  have hb := (u_born (tb_fty k) C.hts hin hKn hkC e1 hty)
  have k1 := kk H1 locs ls (hH.new ⟨_, h1, hN.symm, by rw [hH.1]; exact hb.to (fun j hj => by
    show _ = vp_V (tb_dfl k) j
    rw [hdf]
    simp [vp_V, hj])⟩ (by rw [z1, hH.1]) (fun q hq => o1 q (by rw [← hH.1]; exact hq))) hl hL
  have e3 : (ah_new σ (.inr (k, tb_dfl k)) (tb_dfl k).length).2.1 - s.heap.size = σ.2.1 - s.heap.size + 1 := by show σ.2.1 + 1 - s.heap.size = _; omega
  have e4 : (ah_new σ (.inr (k, tb_dfl k)) (tb_dfl k).length).2.2 - u0 = σ.2.2 - u0 + N := by show σ.2.2 + (tb_dfl k).length - u0 = _; omega
  rw [e3, e4] at k1
  exact k1
theorem so_newa (C : sd_CX G D H0 p l R s m args meth c t) {at_ : ArrayType} (V : Cond.arrayClass (newarray.typeOf at_) ∈ lw_all) (hat : newarray.typeOf at_ ∈ sd_atys) {n : Int32} (d : sd_at t pc (.newarray at_) 2) (hn : ¬ (n < 0 ∨ 60000000 ≤ n)) (hs : s.heap.size ≤ σ.2.1) (hu : u0 ≤ σ.2.2) (hr1 : σ.2.1 + 1 - s.heap.size ≤ R.cells) (hr2 : σ.2.2 + n.toNatClampNeg - u0 ≤ R.slots)
    (kk : sd_W D H0 p l e R s m args below meth c t u0 Q (ah_new σ (.inl (newarray.typeOf at_, n.toNatClampNeg, fun _ => defaultValue (newarray.typeOf at_))) n.toNatClampNeg) (pc + 2) L (.ref σ.2.1 :: st)) : sd_W D H0 p l e R s m args below meth c t u0 Q σ pc L (.int n :: st) := by
  intro H locs ls hH hl hL
  have hb : n.toNatClampNeg < 60000000 := by
    have h1 : n.toInt < 60000000 := by
      have := Int32.not_le.mp (fun q => hn (Or.inr q))
      have := Int32.lt_iff_toInt_lt.mp this
      simpa using this
    show n.toInt.toNat < 60000000
    omega
  have hcb : componentBytes (newarray.typeOf at_) ≤ 8 := by cases at_ <;> decide
  refine va_newaK C.1 C.2.1 (C.hts _ V) rfl d rfl (fun q => hn (Or.inl q)) rfl (by have := Nat.mul_le_mul (Nat.le_of_lt hb) hcb; omega) (by omega) (by omega) hH.1 fun H1 cA e1 z1 o1 hAr hNm => ?_
  have hcA : cA = D.2 (newarray.typeOf at_) := by
    have h2 := (C.K.2.1 _ hat).2
    cases at_ <;> exact Option.some.inj (hNm.symm.trans h2)
  rw [hcA] at e1
  have k1 := kk H1 locs ls (hH.new ⟨hat, fun q hq => by show fits (newarray.typeOf at_) (defaultValue (newarray.typeOf at_)) = true; cases at_ <;> decide, by rw [hH.1]; exact e1⟩ (by rw [z1, hH.1]) (fun q hq => o1 q (by rw [← hH.1]; exact hq))) hl hL
  have e3 : ∀ cc : AC, (ah_new σ cc n.toNatClampNeg).2.1 - s.heap.size = σ.2.1 - s.heap.size + 1 := fun cc => by show σ.2.1 + 1 - s.heap.size = _; omega
  have e4 : ∀ cc : AC, (ah_new σ cc n.toNatClampNeg).2.2 - u0 = σ.2.2 - u0 + n.toNatClampNeg := fun cc => by show σ.2.2 + n.toNatClampNeg - u0 = _; omega
  rw [e3, e4] at k1
  exact k1
theorem so_anew (C : sd_CX G D H0 p l R s m args meth c t) {idx : Nat} {nm : String} (V : Cond.classLink (mt_y t).cls idx nm ∈ lw_all) (ho : nm ∈ sd_ao) (hat : FieldType.object nm ∈ sd_atys) {n : Int32} (d : sd_at t pc (.anewarray idx) 3) (hn : ¬ (n < 0 ∨ 60000000 ≤ n)) (hs : s.heap.size ≤ σ.2.1) (hu : u0 ≤ σ.2.2) (hr1 : σ.2.1 + 1 - s.heap.size ≤ R.cells) (hr2 : σ.2.2 + n.toNatClampNeg - u0 ≤ R.slots)
    (kk : sd_W D H0 p l e R s m args below meth c t u0 Q (ah_new σ (.inl (.object nm, n.toNatClampNeg, fun _ => .null)) n.toNatClampNeg) (pc + 3) L (.ref σ.2.1 :: st)) : sd_W D H0 p l e R s m args below meth c t u0 Q σ pc L (.int n :: st) := by
  intro H locs ls hH hl hL
  have hb : n.toNatClampNeg < 60000000 := by
    have h1 : n.toInt < 60000000 := by
      have := Int32.not_le.mp (fun q => hn (Or.inr q))
      have := Int32.lt_iff_toInt_lt.mp this
      simpa using this
    show n.toInt.toNat < 60000000
    omega
  refine W.anew C.1 C.2.1 C.own (C.hts _ V) (va_AO.use (C.K.2.2.2.2.2.2.2.2.1 _ ho)) rfl d rfl (fun q => hn (Or.inl q)) (by omega) (by omega) (by omega) fun cA kA comp f1 f2 f3 f4 => ?_
  obtain ⟨kA', comp', k1, k2, k3, k4⟩ := (C.K.2.1 _ hat).2
  have hcA : cA = D.2 (.object nm) := Option.some.inj (f1.symm.trans k4)
  generalize hH1 : H.push ({ cls := cA, slots := Array.replicate n.toNatClampNeg .null, vm := .none } : Cell) = H1
  have z1 : H1.size = H.size + 1 := by rw [← hH1, Array.size_push]
  have e1 : H1[H.size]? = some (arrV cA n.toNatClampNeg (fun _ => .null)) := by rw [← hH1, Array.getElem?_push_size, ← arrV_new]
  have o1 : ∀ q : Nat, q < H.size → H1[q]? = H[q]? := fun q hq => by rw [← hH1, Array.getElem?_push, if_neg (Nat.ne_of_lt hq)]
  rw [hcA] at e1
  have k1 := kk H1 locs ls (hH.new ⟨hat, fun q hq => rfl, e1⟩ z1 o1) hl hL
  have e3 : ∀ cc : AC, (ah_new σ cc n.toNatClampNeg).2.1 - s.heap.size = σ.2.1 - s.heap.size + 1 := fun cc => by show σ.2.1 + 1 - s.heap.size = _; omega
  have e4 : ∀ cc : AC, (ah_new σ cc n.toNatClampNeg).2.2 - u0 = σ.2.2 - u0 + n.toNatClampNeg := fun cc => by show σ.2.2 + n.toNatClampNeg - u0 = _; omega
  rw [e3, e4] at k1
  rw [hH.1]
  exact k1
/-! casts -/
theorem so_castN (C : sd_CX G D H0 p l R s m args meth c t) {idx : Nat} (d : sd_at t pc (.checkcast idx) 3) (kk : sd_W D H0 p l e R s m args below meth c t u0 Q σ (pc + 3) L (.null :: st)) : sd_W D H0 p l e R s m args below meth c t u0 Q σ pc L (.null :: st) :=
  fun H locs ls hH hl hL => lv_castN C.1 C.2.1 d (kk H locs ls hH hl hL)
theorem so_instN (C : sd_CX G D H0 p l R s m args meth c t) {idx : Nat} (d : sd_at t pc (.instanceof idx) 3) (kk : sd_W D H0 p l e R s m args below meth c t u0 Q σ (pc + 3) L (.int 0 :: st)) : sd_W D H0 p l e R s m args below meth c t u0 Q σ pc L (.null :: st) :=
  fun H locs ls hH hl hL => lv_instN C.1 C.2.1 d (kk H locs ls hH hl hL)
theorem sd_recv {H : Heap} (C : sd_CX G D H0 p l R s m args meth c t) (hH : sd_H D H0.size H0 σ H) {a k : Nat} (hk : k < 1000) (h : ah_cls σ a = some k) : ∃ r : vw_C, sd_cl[k]? = some r ∧ ∃ cell : Cell, H[a]? = some cell ∧ cell.vm.isStatics = false ∧ s.vm.findClass r.1 = some cell.cls := by
  obtain ⟨cell, r, r1, q1, q2, q3, hat⟩ := sd_obj C hH hk h
  exact ⟨r, r1, cell, q1, by rw [q2]; rfl, by rw [q3]; exact hat.1⟩
theorem so_cast (C : sd_CX G D H0 p l R s m args meth c t) {idx a k : Nat} {nm : String} (V : Cond.classLink (mt_y t).cls idx nm ∈ lw_all) (hk : k < 1000) (h : ah_cls σ a = some k) (VA : vd_A k nm) (d : sd_at t pc (.checkcast idx) 3) (kk : sd_W D H0 p l e R s m args below meth c t u0 Q σ (pc + 3) L (.ref a :: st)) : sd_W D H0 p l e R s m args below meth c t u0 Q σ pc L (.ref a :: st) := by
  intro H locs ls hH hl hL
  obtain ⟨r, r1, hr⟩ := sd_recv C hH hk h
  obtain ⟨C1, T, N, h1, h2⟩ := VA
  cases r1.symm.trans h1
  rcases h2 with rfl | h2
  · exact va_castS C.1 C.2.1 C.own (C.hts _ V) (C.K.1.1 k _ h1).2 hr d (kk H locs ls hH hl hL)
  · exact va_castY C.1 C.2.1 C.own (C.hts _ V) (C.rd h2 rfl) hr d (kk H locs ls hH hl hL)
theorem so_inst1 (C : sd_CX G D H0 p l R s m args meth c t) {idx a k : Nat} {nm : String} (V : Cond.classLink (mt_y t).cls idx nm ∈ lw_all) (hk : k < 1000) (h : ah_cls σ a = some k) (VA : vd_A k nm) (d : sd_at t pc (.instanceof idx) 3) (kk : sd_W D H0 p l e R s m args below meth c t u0 Q σ (pc + 3) L (.int 1 :: st)) : sd_W D H0 p l e R s m args below meth c t u0 Q σ pc L (.ref a :: st) := by
  intro H locs ls hH hl hL
  obtain ⟨r, r1, hr⟩ := sd_recv C hH hk h
  obtain ⟨C1, T, N, h1, h2⟩ := VA
  cases r1.symm.trans h1
  rcases h2 with rfl | h2
  · exact va_instS C.1 C.2.1 C.own (C.hts _ V) (C.K.1.1 k _ h1).2 hr d (kk H locs ls hH hl hL)
  · exact va_instY C.1 C.2.1 C.own (C.hts _ V) (C.rd h2 rfl) hr d (kk H locs ls hH hl hL)
def vd_B (k : Nat) (nm : String) : Prop := ∃ (C : String) (T : u_T) (N : Nat), sd_cl[k]? = some (C, T, N) ∧ (C, nm) ∈ sd_nc
theorem so_inst0 (C : sd_CX G D H0 p l R s m args meth c t) {idx a k : Nat} {nm : String} (V : Cond.classLink (mt_y t).cls idx nm ∈ lw_all) (hk : k < 1000) (h : ah_cls σ a = some k) (VA : vd_B k nm) (d : sd_at t pc (.instanceof idx) 3) (kk : sd_W D H0 p l e R s m args below meth c t u0 Q σ (pc + 3) L (.int 0 :: st)) : sd_W D H0 p l e R s m args below meth c t u0 Q σ pc L (.ref a :: st) := by
  intro H locs ls hH hl hL
  obtain ⟨r, r1, hr⟩ := sd_recv C hH hk h
  obtain ⟨C1, T, N, h1, h2⟩ := VA
  cases r1.symm.trans h1
  exact va_instNo C.1 C.2.1 C.own (C.hts _ V) (C.K.2.2.2.2.1 _ h2) hr d (kk H locs ls hH hl hL)
end SD3
