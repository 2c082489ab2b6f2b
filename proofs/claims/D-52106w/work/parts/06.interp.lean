set_option maxRecDepth 100000
/-! THE ABSTRACT MACHINE: a heap of objects (class number, field values) and arrays (type, length, contents), frames with lists as locals and stacks, and a step function over the decoded instructions with their links resolved (aux). All later proofs are about it; 'sound' says that the JVM does the same. -/
abbrev AC : Type := (FieldType × Nat × (Nat → Value)) ⊕ (Nat × List Value)
/-- what stands where (true: may be written); the number of cells; the slots used -/
abbrev AH : Type := (Nat → Option (Bool × AC)) × Nat × Nat
def ah_set (σ : AH) (a : Nat) (c : AC) : AH := (fun q => if q = a then some (true, c) else σ.1 q, σ.2.1, σ.2.2)
def ah_new (σ : AH) (c : AC) (n : Nat) : AH := (fun q => if q = σ.2.1 then some (true, c) else σ.1 q, σ.2.1 + 1, σ.2.2 + n)
def ah_fld (σ : AH) (a k j : Nat) : Option Value := match σ.1 a with
  | some (_, .inr (k', vs)) => if k' = k then vs[j]? else none
  | _ => none
def ah_put (σ : AH) (a k j : Nat) (v : Value) : Option AH := match σ.1 a with
  | some (true, .inr (k', vs)) => if k' = k ∧ j < vs.length then some (ah_set σ a (.inr (k', vs.set j v))) else none
  | _ => none
def ah_ald (σ : AH) (a : Nat) (ty : FieldType) (i : Nat) : Option Value := match σ.1 a with
  | some (_, .inl (ty', n, f)) => if ty' = ty ∧ i < n then some (f i) else none
  | _ => none
def ah_ast (σ : AH) (a : Nat) (ty : FieldType) (i : Nat) (v : Value) : Option AH := match σ.1 a with
  | some (true, .inl (ty', n, f)) => if ty' = ty ∧ i < n then some (ah_set σ a (.inl (ty', n, va_up f i v))) else none
  | _ => none
def ah_len (σ : AH) (a : Nat) : Option Nat := match σ.1 a with
  | some (_, .inl (_, n, _)) => some n
  | _ => none
/-- the class number of an object; of an array 1000 and more, by its type -/
def ah_tyn (ty : FieldType) : Nat := match ty with
  | .byte => 1001
  | .object n => if n = "java/lang/Object" then 1002 else 1003
  | _ => 1000
def ah_cls (σ : AH) (a : Nat) : Option Nat := match σ.1 a with
  | some (_, .inr (k, _)) => some k
  | some (_, .inl (ty, _, _)) => some (ah_tyn ty)
  | _ => none
/-- an element that arrays of objects are copied with: null, or an object of the classes that lists are made of here -/
def ah_el (σ : AH) (v : Value) : Bool := match v with
  | .null => true
  | .ref q => (match ah_cls σ q with
    | some k => k == 3 || k == 4 || k == 9
    | none => false)
  | _ => false
/-- System.arraycopy between arrays of one type -/
def ah_cpy (σ : AH) (a0 : Nat) (sp : Nat) (a1 : Nat) (dp n : Nat) : Option AH := match σ.1 a0, σ.1 a1 with
  | some (_, .inl (ty0, n0, f)), some (true, .inl (ty1, n1, g)) => if ty0 = ty1 ∧ sp + n ≤ n0 ∧ dp + n ≤ n1 ∧ (ty0 = .byte ∨ (ty0 = .object "java/lang/Object" ∧ ∀ i, i < n → ah_el σ (f (sp + i)) = true)) then some (ah_set σ a1 (.inl (ty1, n1, va_cpy f g sp dp n))) else none
  | _, _ => none
/-- an array's clone -/
def ah_cln (σ : AH) (a : Nat) : Option AH := match σ.1 a with
  | some (_, .inl (ty, n, f)) => some (ah_new σ (.inl (ty, n, f)) n)
  | _ => none

abbrev ip_Fr : Type := Nat × List (Option Value) × List Value
abbrev ip_Act : Type := (ip_Fr × AH) ⊕ (Option Value × AH) ⊕ (Nat × List Value × ip_Fr × AH) ⊕ (Nat × AH)
abbrev ip_Out : Type := Option Value ⊕ Nat
def ip_nx (pc : Nat) (L : List (Option Value)) (st : List Value) (σ : AH) : Option ip_Act := some (.inl ((pc, L, st), σ))
def ip_rt (v : Option Value) (σ : AH) : Option ip_Act := some (.inr (.inl (v, σ)))
/-- the arguments take one local each; those of Math.min of longs two -/
def ip_ok (t : Nat) (As : List Value) : Bool := As.all (fun v => v.category == 1) || (t == tb_mj && As.all (fun v => v.category == 2))
def ip_cw (t : Nat) (As : List Value) (pc : Nat) (L : List (Option Value)) (st : List Value) (σ : AH) : Option ip_Act := some (.inr (.inr (.inl (t, As, (pc, L, st), σ))))
def ip_cl (t : Nat) (As : List Value) (pc : Nat) (L : List (Option Value)) (st : List Value) (σ : AH) : Option ip_Act := if ip_ok t As = true then ip_cw t As pc L st σ else none
/-- an object of class k is thrown -/
def ip_th (k : Nat) (σ : AH) : Option ip_Act := some (.inr (.inr (.inr (k, σ))))
def ip_jt (pc : Nat) (off : Int) : Option Nat := if 0 ≤ (pc : Int) + off then some ((pc : Int) + off).toNat else none
def ip_cc (c : Jvm.ClassFile.Cond) (x y : Int32) : Bool := match c with
  | .eq => decide (x = y)
  | .ne => decide (¬ x = y)
  | .lt => decide (x < y)
  | .ge => decide (y ≤ x)
  | .gt => decide (y < x)
  | .le => decide (x ≤ y)
/-- storing a value of one slot; W: the places where the method's longs and doubles begin -/
def ip_st1 (W : List Nat) (L : List (Option Value)) (i : Nat) (v : Value) : List (Option Value) := if i ≠ 0 ∧ W.contains (i - 1) then (L.set i (some v)).set (i - 1) none else L.set i (some v)
def ip_st2 (W : List Nat) (L : List (Option Value)) (i : Nat) (v : Value) : List (Option Value) := if i ≠ 0 ∧ W.contains (i - 1) then ((L.set i (some v)).set (i + 1) none).set (i - 1) none else (L.set i (some v)).set (i + 1) none
def ip_args : List Value → List (Option Value)
  | [] => []
  | v :: vs => if v.category = 2 then some v :: none :: ip_args vs else some v :: ip_args vs
/-- a method's first locals -/
def ip_en (n : Nat) (As : List Value) : List (Option Value) := ip_args As ++ List.replicate (n - (ip_args As).length) none
def ip_loadI (L : List (Option Value)) (k : Nat) : Option Value := match L[k]? with
  | some (some (.int x)) => some (.int x)
  | _ => none
def ip_loadJ (L : List (Option Value)) (k : Nat) : Option Value := match L[k]? with
  | some (some (.long x)) => some (.long x)
  | _ => none
def ip_loadD (L : List (Option Value)) (k : Nat) : Option Value := match L[k]? with
  | some (some (.double x)) => some (.double x)
  | _ => none
def ip_loadA (L : List (Option Value)) (k : Nat) : Option Value := match L[k]? with
  | some (some (.ref x)) => some (.ref x)
  | some (some .null) => some .null
  | _ => none
def ip_isA (v : Value) : Bool := match v with
  | .ref _ => true
  | .null => true
  | _ => false
/-- what a field of this type takes -/
def ip_fit (ty : FieldType) (v : Value) : Bool := decide (narrow ty v = v) && fits ty v
/-- a value that a method of this type may hand back -/
def ip_rok (ret : Option FieldType) (v : Value) : Bool := match ret, v with
  | some ty, .int x => (match ty with | .object _ => false | .array _ => false | .long => false | .float => false | .double => false | _ => true) && decide (narrow ty (.int x) = .int x)
  | some .long, .long _ => true
  | some .double, .double _ => true
  | some (.object _), .ref _ => true
  | some (.object _), .null => true
  | some (.array _), .ref _ => true
  | some (.array _), .null => true
  | _, _ => false
/-! combinators, a family each -/
def ip_ld (o : Option Value) (pc : Nat) (L : List (Option Value)) (st : List Value) (σ : AH) : Option ip_Act := o.bind fun v => ip_nx pc L (v :: st) σ
def ip_sI (W : List Nat) (k pc : Nat) (L : List (Option Value)) (st : List Value) (σ : AH) : Option ip_Act := match st with
  | .int x :: r => if k < L.length then ip_nx pc (ip_st1 W L k (.int x)) r σ else none
  | _ => none
def ip_sA (W : List Nat) (k pc : Nat) (L : List (Option Value)) (st : List Value) (σ : AH) : Option ip_Act := match st with
  | .ref x :: r => if k < L.length then ip_nx pc (ip_st1 W L k (.ref x)) r σ else none
  | .null :: r => if k < L.length then ip_nx pc (ip_st1 W L k .null) r σ else none
  | _ => none
def ip_sJ (W : List Nat) (k pc : Nat) (L : List (Option Value)) (st : List Value) (σ : AH) : Option ip_Act := match st with
  | .long x :: r => if k + 1 < L.length ∧ W.contains k = true then ip_nx pc (ip_st2 W L k (.long x)) r σ else none
  | _ => none
def ip_sD (W : List Nat) (k pc : Nat) (L : List (Option Value)) (st : List Value) (σ : AH) : Option ip_Act := match st with
  | .double x :: r => if k + 1 < L.length ∧ W.contains k = true then ip_nx pc (ip_st2 W L k (.double x)) r σ else none
  | _ => none
def ip_inc (W : List Nat) (k : Nat) (n : Int) (pc : Nat) (L : List (Option Value)) (st : List Value) (σ : AH) : Option ip_Act := match L[k]? with
  | some (some (.int x)) => ip_nx pc (ip_st1 W L k (.int (x + Int32.ofInt n))) st σ
  | _ => none
def ip_b2 (f : Int32 → Int32 → Value) (pc : Nat) (L : List (Option Value)) (st : List Value) (σ : AH) : Option ip_Act := match st with
  | .int y :: .int x :: r => ip_nx pc L (f x y :: r) σ
  | _ => none
def ip_b2z (f : Int32 → Int32 → Value) (pc : Nat) (L : List (Option Value)) (st : List Value) (σ : AH) : Option ip_Act := match st with
  | .int y :: .int x :: r => if y = 0 then none else ip_nx pc L (f x y :: r) σ
  | _ => none
def ip_u1 (f : Int32 → Value) (pc : Nat) (L : List (Option Value)) (st : List Value) (σ : AH) : Option ip_Act := match st with
  | .int x :: r => ip_nx pc L (f x :: r) σ
  | _ => none
def ip_j1 (f : Int64 → Value) (pc : Nat) (L : List (Option Value)) (st : List Value) (σ : AH) : Option ip_Act := match st with
  | .long x :: r => ip_nx pc L (f x :: r) σ
  | _ => none
def ip_j2 (f : Int64 → Int64 → Value) (pc : Nat) (L : List (Option Value)) (st : List Value) (σ : AH) : Option ip_Act := match st with
  | .long y :: .long x :: r => ip_nx pc L (f x y :: r) σ
  | _ => none
def ip_d2 (ok : UInt64 → UInt64 → Bool) (f : UInt64 → UInt64 → Value) (pc : Nat) (L : List (Option Value)) (st : List Value) (σ : AH) : Option ip_Act := match st with
  | .double y :: .double x :: r => if ok x y = true then ip_nx pc L (f x y :: r) σ else none
  | _ => none
def ip_dup (pc : Nat) (L : List (Option Value)) (st : List Value) (σ : AH) : Option ip_Act := match st with
  | v :: r => if v.category = 1 then ip_nx pc L (v :: v :: r) σ else none
  | _ => none
def ip_pop (pc : Nat) (L : List (Option Value)) (st : List Value) (σ : AH) : Option ip_Act := match st with
  | v :: r => if v.category = 1 then ip_nx pc L r σ else none
  | _ => none
def ip_dupx (pc : Nat) (L : List (Option Value)) (st : List Value) (σ : AH) : Option ip_Act := match st with
  | v :: w :: r => if v.category = 1 ∧ w.category = 1 then ip_nx pc L (v :: w :: v :: r) σ else none
  | _ => none
def ip_dup2 (pc : Nat) (L : List (Option Value)) (st : List Value) (σ : AH) : Option ip_Act := match st with
  | v :: w :: r => if v.category = 1 ∧ w.category = 1 then ip_nx pc L (v :: w :: v :: w :: r) σ else none
  | _ => none
def ip_br1 (cd : Jvm.ClassFile.Cond) (off : Int) (pc : Nat) (L : List (Option Value)) (st : List Value) (σ : AH) : Option ip_Act := match st with
  | .int x :: r => (ip_jt pc off).bind fun tgt => ip_nx (if ip_cc cd x 0 = true then tgt else pc + 3) L r σ
  | _ => none
def ip_br2 (cd : Jvm.ClassFile.Cond) (off : Int) (pc : Nat) (L : List (Option Value)) (st : List Value) (σ : AH) : Option ip_Act := match st with
  | .int y :: .int x :: r => (ip_jt pc off).bind fun tgt => ip_nx (if ip_cc cd x y = true then tgt else pc + 3) L r σ
  | _ => none
def ip_ac (cd : ACond) (x y : Value) : Bool := match cd with
  | .eq => decide (x = y)
  | .ne => decide (¬ x = y)
def ip_bra (cd : ACond) (off : Int) (pc : Nat) (L : List (Option Value)) (st : List Value) (σ : AH) : Option ip_Act := match st with
  | y :: x :: r => if ip_isA y = true ∧ ip_isA x = true then (ip_jt pc off).bind fun tgt => ip_nx (if ip_ac cd x y = true then tgt else pc + 3) L r σ else none
  | _ => none
def ip_brn (nn : Bool) (off : Int) (pc : Nat) (L : List (Option Value)) (st : List Value) (σ : AH) : Option ip_Act := match st with
  | .null :: r => (ip_jt pc off).bind fun tgt => ip_nx (if nn = true then pc + 3 else tgt) L r σ
  | .ref _ :: r => (ip_jt pc off).bind fun tgt => ip_nx (if nn = true then tgt else pc + 3) L r σ
  | _ => none
def ip_tsw (dflt lo hi : Int) (offs : Array Int) (pc : Nat) (L : List (Option Value)) (st : List Value) (σ : AH) : Option ip_Act := match st with
  | .int x :: r => if x.toInt < lo ∨ hi < x.toInt then (ip_jt pc dflt).bind fun tgt => ip_nx tgt L r σ else (offs[(x.toInt - lo).toNat]?).bind fun off => (ip_jt pc off).bind fun tgt => ip_nx tgt L r σ
  | _ => none
def ip_getf (aux : List (Nat × Nat)) (pc : Nat) (L : List (Option Value)) (st : List Value) (σ : AH) : Option ip_Act := match st, aux with
  | .ref a :: r, [(k, j)] => (ah_fld σ a k j).bind fun v => ip_nx (pc + 3) L (v :: r) σ
  | _, _ => none
def ip_putf (aux : List (Nat × Nat)) (pc : Nat) (L : List (Option Value)) (st : List Value) (σ : AH) : Option ip_Act := match st, aux with
  | v :: .ref a :: r, [(k, j)] => if ip_fit (tb_fty k j) v = true then (ah_put σ a k j v).bind fun σ' => ip_nx (pc + 3) L r σ' else none
  | _, _ => none
def ip_glob (G : Nat → Value) (aux : List (Nat × Nat)) (pc : Nat) (L : List (Option Value)) (st : List Value) (σ : AH) : Option ip_Act := match aux with
  | [(g, 0)] => ip_nx pc L (G g :: st) σ
  | [(g, 1)] => ip_nx pc L (tb_cst g :: st) σ
  | _ => none
def ip_alen (pc : Nat) (L : List (Option Value)) (st : List Value) (σ : AH) : Option ip_Act := match st with
  | .ref a :: r => (ah_len σ a).bind fun n => ip_nx (pc + 1) L (.int (Int32.ofNat n) :: r) σ
  | _ => none
def ip_ald (ty : FieldType) (pc : Nat) (L : List (Option Value)) (st : List Value) (σ : AH) : Option ip_Act := match st with
  | .int j :: .ref a :: r => if j < 0 then none else (ah_ald σ a ty j.toNatClampNeg).bind fun v => ip_nx (pc + 1) L (v :: r) σ
  | _ => none
def ip_astI (ty : FieldType) (pc : Nat) (L : List (Option Value)) (st : List Value) (σ : AH) : Option ip_Act := match st with
  | .int x :: .int j :: .ref a :: r => if j < 0 then none else (ah_ast σ a ty j.toNatClampNeg (.int (vp_nar ty x))).bind fun σ' => ip_nx (pc + 1) L r σ'
  | _ => none
def ip_astJ (pc : Nat) (L : List (Option Value)) (st : List Value) (σ : AH) : Option ip_Act := match st with
  | .long x :: .int j :: .ref a :: r => if j < 0 then none else (ah_ast σ a .long j.toNatClampNeg (.long x)).bind fun σ' => ip_nx (pc + 1) L r σ'
  | _ => none
def ip_astA (aux : List (Nat × Nat)) (pc : Nat) (L : List (Option Value)) (st : List Value) (σ : AH) : Option ip_Act := match st, aux with
  | .ref v :: .int j :: .ref a :: r, (k, _) :: ks => if j < 0 then none else (ah_cls σ v).bind fun kv => if ks.contains (kv, 0) = true then (ah_ast σ a (tb_aty k) j.toNatClampNeg (.ref v)).bind fun σ' => ip_nx (pc + 1) L r σ' else none
  | _, _ => none
def ip_new (aux : List (Nat × Nat)) (pc : Nat) (L : List (Option Value)) (st : List Value) (σ : AH) : Option ip_Act := match aux with
  | [(k, 0)] => ip_nx (pc + 3) L (.ref σ.2.1 :: st) (ah_new σ (.inr (k, tb_dfl k)) (tb_dfl k).length)
  | [(k, 1)] => if st.length ≤ 4 then ip_nx (pc + 7) L (.ref σ.2.1 :: st) (ah_new σ (.inr (k, [])) 6) else none
  | _ => none
def ip_newa (ty : FieldType) (dv : Value) (pc : Nat) (L : List (Option Value)) (st : List Value) (σ : AH) : Option ip_Act := match st with
  | .int n :: r => if n < 0 ∨ 60000000 ≤ n then none else ip_nx pc L (.ref σ.2.1 :: r) (ah_new σ (.inl (ty, n.toNatClampNeg, fun _ => dv)) n.toNatClampNeg)
  | _ => none
/-- new int[5][5], as the class's only multianewarray has it: the outer array first, then its rows -/
def ip_grid (pc : Nat) (L : List (Option Value)) (st : List Value) (σ : AH) : Option ip_Act := match st with
  | .int m :: .int n :: r => if m = 5 ∧ n = 5 then ip_nx (pc + 4) L (.ref σ.2.1 :: r) (fun q => if q = σ.2.1 then some (true, .inl (.array .int, 5, fun i => .ref (σ.2.1 + 1 + i))) else if σ.2.1 < q ∧ q < σ.2.1 + 6 then some (true, .inl (.int, 5, fun _ => .int 0)) else σ.1 q, σ.2.1 + 6, σ.2.2 + 30) else none
  | _ => none
def ip_cast (aux : List (Nat × Nat)) (pc : Nat) (L : List (Option Value)) (st : List Value) (σ : AH) : Option ip_Act := match st with
  | .null :: r => ip_nx (pc + 3) L (.null :: r) σ
  | .ref a :: r => (ah_cls σ a).bind fun k => if aux.contains (k, 1) = true then ip_nx (pc + 3) L (.ref a :: r) σ else none
  | _ => none
def ip_inst (aux : List (Nat × Nat)) (pc : Nat) (L : List (Option Value)) (st : List Value) (σ : AH) : Option ip_Act := match st with
  | .null :: r => ip_nx (pc + 3) L (.int 0 :: r) σ
  | .ref a :: r => (ah_cls σ a).bind fun k => if aux.contains (k, 1) = true then ip_nx (pc + 3) L (.int 1 :: r) σ else if aux.contains (k, 0) = true then ip_nx (pc + 3) L (.int 0 :: r) σ else none
  | _ => none
/-- the top n of the stack, as arguments -/
def ip_pk (n : Nat) (st : List Value) : Option (List Value × List Value) := if n ≤ st.length ∧ (st.drop n).length ≤ 4 then some ((st.take n).reverse, st.drop n) else none
def ip_copy (pc : Nat) (L : List (Option Value)) (st : List Value) (σ : AH) : Option ip_Act := match st with
  | .int n :: .int dp :: .ref a1 :: .int sp :: .ref a0 :: r => if sp < 0 ∨ dp < 0 ∨ n < 0 ∨ 4 < r.length then none else (ah_cpy σ a0 sp.toNatClampNeg a1 dp.toNatClampNeg n.toNatClampNeg).bind fun σ' => ip_nx pc L r σ'
  | _ => none
def ip_ivs (aux : List (Nat × Nat)) (pc : Nat) (L : List (Option Value)) (st : List Value) (σ : AH) : Option ip_Act := match aux with
  | [(_, t)] => if t = 9000 then ip_copy (pc + 3) L st σ else (ip_pk (tb_nar t) st).bind fun q => ip_cl t q.1 (pc + 3) L q.2 σ
  | _ => none
def ip_ivp (aux : List (Nat × Nat)) (pc : Nat) (L : List (Option Value)) (st : List Value) (σ : AH) : Option ip_Act := match aux with
  | [(_, t)] => (ip_pk (if t = 9001 then 1 else tb_nar t) st).bind fun q => match q.1 with
    | .ref a :: As => (ah_cls σ a).bind fun k => if t = 9001 then ip_nx (pc + 3) L q.2 σ else if k < 1000 then ip_cl t (.ref a :: As) (pc + 3) L q.2 σ else none
    | _ => none
  | _ => none
def ip_ivv (G : Nat → Value) (aux : List (Nat × Nat)) (pc : Nat) (L : List (Option Value)) (st : List Value) (σ : AH) : Option ip_Act := match aux with
  | (n, _) :: vt => (ip_pk n st).bind fun q => match q.1 with
    | .ref a :: As => (ah_cls σ a).bind fun k => (vt.lookup k).bind fun t =>
      if t = 9002 then (ah_cln σ a).bind fun σ' => ip_nx (pc + 3) L (.ref σ.2.1 :: q.2) σ'
      else if t = 9003 then ip_nx (pc + 3) L (G 0 :: q.2) σ
      else ip_cl t (.ref a :: As) (pc + 3) L q.2 σ
    | _ => none
  | _ => none
def ip_ivi (aux : List (Nat × Nat)) (pc : Nat) (L : List (Option Value)) (st : List Value) (σ : AH) : Option ip_Act := match aux with
  | (n, _) :: vt => (ip_pk n st).bind fun q => match q.1 with
    | .ref a :: As => (ah_cls σ a).bind fun k => (vt.lookup k).bind fun t => ip_cl t (.ref a :: As) (pc + 5) L q.2 σ
    | _ => none
  | _ => none
def ip_ret1 (ret : Option FieldType) (st : List Value) (σ : AH) : Option ip_Act := match st with
  | [v] => if ip_rok ret v = true then ip_rt (some v) σ else none
  | _ => none
def ip_ret0 (ret : Option FieldType) (st : List Value) (σ : AH) : Option ip_Act := match st with
  | [] => if ret = none then ip_rt none σ else none
  | _ => none
def ip_thr (st : List Value) (σ : AH) : Option ip_Act := match st with
  | .ref a :: _ => (ah_cls σ a).bind fun k => if k = 18 ∨ k = 19 ∨ k = 20 then ip_th k σ else none
  | _ => none
/-- how long an instruction is -/
def ip_len (i : Instr) : Nat := match i with
  | .bipush _ => 2 | .sipush _ => 3 | .iload _ => 2 | .lload _ => 2 | .dload _ => 2 | .aload _ => 2 | .istore _ => 2 | .lstore _ => 2 | .dstore _ => 2 | .astore _ => 2 | .iinc _ _ => 3
  | .goto _ => 3 | .ifCond _ _ => 3 | .if_icmp _ _ => 3 | .if_acmp _ _ => 3 | .ifnull _ => 3 | .ifnonnull _ => 3 | .getfield _ => 3 | .putfield _ => 3 | .getstatic _ => 3 | .ldc _ => 2 | .ldc2_w _ => 3 | .ldc_w _ => 3
  | .new _ => 3 | .newarray _ => 2 | .anewarray _ => 3 | .multianewarray _ _ => 4 | .checkcast _ => 3 | .instanceof _ => 3 | .invokestatic _ => 3 | .invokespecial _ => 3 | .invokevirtual _ => 3 | .invokeinterface _ _ => 5
  | _ => 1
/-- one instruction. aux, by the instruction: getfield, putfield [(class, place)]; getstatic, ldc of a text or class [(global, 0)]; of a number [(constant, 1)]; new [(class, 0)], of an exception [(class, 1)]; static and special calls [(0, method)], natives as methods from 9000 on; virtual and interface calls (how many arguments, 0) and then (receiver's class, method); casts and instanceof [(class, 0 or 1)]; aaload, anewarray [(array type, 0)]; aastore [(array type, 0), (stored class, 0) ..]; baload, bastore [] for byte, [(1, 0)] for boolean -/
def ip_act (G : Nat → Value) (W : List Nat) (ret : Option FieldType) (i : Instr) (aux : List (Nat × Nat)) (pc : Nat) (L : List (Option Value)) (st : List Value) (σ : AH) : Option ip_Act :=
  match i with
  | .iconst n => ip_nx (pc + 1) L (.int (Int32.ofInt n) :: st) σ
  | .bipush n => ip_nx (pc + 2) L (.int (Int8.ofInt n).toInt32 :: st) σ
  | .sipush n => ip_nx (pc + 3) L (.int (Int16.ofInt n).toInt32 :: st) σ
  | .lconst n => ip_nx (pc + 1) L (.long (Int64.ofNat (n : Nat)) :: st) σ
  | .dconst n => if (n : Nat) = 0 then ip_nx (pc + 1) L (.double FP.dconst0 :: st) σ else none
  | .aconst_null => ip_nx (pc + 1) L (.null :: st) σ
  | .iload_n k => ip_ld (ip_loadI L k) (pc + 1) L st σ
  | .iload k => ip_ld (ip_loadI L k) (pc + 2) L st σ
  | .lload_n k => ip_ld (ip_loadJ L k) (pc + 1) L st σ
  | .lload k => ip_ld (ip_loadJ L k) (pc + 2) L st σ
  | .dload_n k => ip_ld (ip_loadD L k) (pc + 1) L st σ
  | .dload k => ip_ld (ip_loadD L k) (pc + 2) L st σ
  | .aload_n k => ip_ld (ip_loadA L k) (pc + 1) L st σ
  | .aload k => ip_ld (ip_loadA L k) (pc + 2) L st σ
  | .istore_n k => ip_sI W k (pc + 1) L st σ
  | .istore k => ip_sI W k (pc + 2) L st σ
  | .lstore_n k => ip_sJ W k (pc + 1) L st σ
  | .lstore k => ip_sJ W k (pc + 2) L st σ
  | .dstore k => ip_sD W k (pc + 2) L st σ
  | .astore_n k => ip_sA W k (pc + 1) L st σ
  | .astore k => ip_sA W k (pc + 2) L st σ
  | .iinc k n => ip_inc W k n (pc + 3) L st σ
  | .iadd => ip_b2 (fun x y => .int (x + y)) (pc + 1) L st σ
  | .isub => ip_b2 (fun x y => .int (x - y)) (pc + 1) L st σ
  | .imul => ip_b2 (fun x y => .int (x * y)) (pc + 1) L st σ
  | .iand => ip_b2 (fun x y => .int (x &&& y)) (pc + 1) L st σ
  | .ior => ip_b2 (fun x y => .int (x ||| y)) (pc + 1) L st σ
  | .ishl => ip_b2 (fun x y => .int (x <<< (y &&& 31))) (pc + 1) L st σ
  | .ishr => ip_b2 (fun x y => .int (x >>> (y &&& 31))) (pc + 1) L st σ
  | .iushr => ip_b2 (fun x y => .int (x.toUInt32 >>> (y.toUInt32 &&& Int32.toUInt32 31)).toInt32) (pc + 1) L st σ
  | .idiv => ip_b2z (fun x y => .int (x / y)) (pc + 1) L st σ
  | .irem => ip_b2z (fun x y => .int (x - x / y * y)) (pc + 1) L st σ
  | .ineg => ip_u1 (fun x => .int (-x)) (pc + 1) L st σ
  | .i2b => ip_u1 (fun x => .int x.toInt8.toInt32) (pc + 1) L st σ
  | .i2c => ip_u1 (fun x => .int (x.toUInt32 % 65536).toInt32) (pc + 1) L st σ
  | .i2l => ip_u1 (fun x => .long x.toInt64) (pc + 1) L st σ
  | .i2d => ip_u1 (fun x => .double (FP.i2d x)) (pc + 1) L st σ
  | .l2i => ip_j1 (fun x => .int x.toInt32) (pc + 1) L st σ
  | .ladd => ip_j2 (fun x y => .long (x + y)) (pc + 1) L st σ
  | .lmul => ip_j2 (fun x y => .long (x * y)) (pc + 1) L st σ
  | .lcmp => ip_j2 (fun x y => .int (lg_cmp x y)) (pc + 1) L st σ
  | .ddiv => ip_d2 (fun x y => decide (FP.ddiv x y &&& 0x7fffffffffffffff ≤ 0x7ff0000000000000)) (fun x y => .double (FP.ddiv x y)) (pc + 1) L st σ
  | .dcmp op => ip_d2 (fun _ _ => true) (fun x y => .int (Op.cmpValue (FP.dcmp x y) op)) (pc + 1) L st σ
  | .dup => ip_dup (pc + 1) L st σ
  | .pop => ip_pop (pc + 1) L st σ
  | .dup_x1 => ip_dupx (pc + 1) L st σ
  | .dup2 => ip_dup2 (pc + 1) L st σ
  | .goto off => (ip_jt pc off).bind fun tgt => ip_nx tgt L st σ
  | .ifCond cd off => ip_br1 cd off pc L st σ
  | .if_icmp cd off => ip_br2 cd off pc L st σ
  | .if_acmp cd off => ip_bra cd off pc L st σ
  | .ifnull off => ip_brn false off pc L st σ
  | .ifnonnull off => ip_brn true off pc L st σ
  | .tableswitch dflt lo hi offs => ip_tsw dflt lo hi offs pc L st σ
  | .getfield _ => ip_getf aux pc L st σ
  | .putfield _ => ip_putf aux pc L st σ
  | .getstatic _ => ip_glob G aux (pc + 3) L st σ
  | .ldc _ => ip_glob G aux (pc + 2) L st σ
  | .ldc2_w _ => ip_glob G aux (pc + 3) L st σ
  | .ldc_w _ => ip_glob G aux (pc + 3) L st σ
  | .arraylength => ip_alen pc L st σ
  | .iaload => ip_ald .int pc L st σ
  | .laload => ip_ald .long pc L st σ
  | .baload => ip_ald (if aux = [] then .byte else .boolean) pc L st σ
  | .aaload => match aux with
    | [(k, _)] => ip_ald (tb_aty k) pc L st σ
    | _ => none
  | .iastore => ip_astI .int pc L st σ
  | .bastore => ip_astI (if aux = [] then .byte else .boolean) pc L st σ
  | .lastore => ip_astJ pc L st σ
  | .aastore => ip_astA aux pc L st σ
  | .new _ => ip_new aux pc L st σ
  | .newarray at_ => ip_newa (newarray.typeOf at_) (defaultValue (newarray.typeOf at_)) (pc + 2) L st σ
  | .anewarray _ => match aux with
    | [(k, _)] => ip_newa (tb_aty k) .null (pc + 3) L st σ
    | _ => none
  | .multianewarray _ _ => ip_grid pc L st σ
  | .checkcast _ => ip_cast aux pc L st σ
  | .instanceof _ => ip_inst aux pc L st σ
  | .invokestatic _ => ip_ivs aux pc L st σ
  | .invokespecial _ => ip_ivp aux pc L st σ
  | .invokevirtual _ => ip_ivv G aux pc L st σ
  | .invokeinterface _ _ => ip_ivi aux pc L st σ
  | .ireturn => ip_ret1 ret st σ
  | .lreturn => ip_ret1 ret st σ
  | .dreturn => ip_ret1 ret st σ
  | .areturn => ip_ret1 ret st σ
  | .return_ => ip_ret0 ret st σ
  | .athrow => ip_thr st σ
  | _ => none
/-- the handler, in method t at pc, of a thrown object of class k -/
def ip_hnd (t pc k : Nat) : Option Nat := (tb_hnd t).findSome? fun h => if h.1 ≤ pc ∧ pc < h.2.1 ∧ h.2.2.2.contains k = true then some h.2.2.1 else none
/-- a handler begins by storing what it caught; nobody reads it -/
def ip_ca (t h : Nat) (L : List (Option Value)) : Option (Nat × List (Option Value)) := match tb_code t h with
  | some (.astore j, _) => if j < L.length ∧ tb_wide t = [] then some (h + 2, L.set j none) else none
  | some (.astore_n j, _) => if (j : Nat) < L.length ∧ tb_wide t = [] then some (h + 1, L.set (j : Nat) none) else none
  | _ => none
/-- the machine: d calls deep at most, n steps at most -/
def ip_run (G : Nat → Value) : Nat → Nat → Nat → Nat → List (Option Value) → List Value → AH → Option (ip_Out × AH)
  | _, 0, _, _, _, _, _ => none
  | d, n + 1, t, pc, L, st, σ =>
    match tb_code t pc with
    | none => none
    | some (i, aux) =>
      match ip_act G (tb_wide t) (tb_ret t) i aux pc L st σ with
      | none => none
      | some (.inl ((pc', L', st'), σ')) => ip_run G d n t pc' L' st' σ'
      | some (.inr (.inl (v, σ'))) => some (.inl v, σ')
      | some (.inr (.inr (.inr (a, σ')))) => (match ip_hnd t pc a with
        | none => some (.inr a, σ')
        | some h => (match ip_ca t h L with
          | none => none
          | some (pc', L') => ip_run G d n t pc' L' [] σ'))
      | some (.inr (.inr (.inl (t', As, (pc', L', st'), σ')))) => (match d with
        | 0 => none
        | d' + 1 => (match ip_run G d' n t' 0 (ip_en (tb_maxl t') As) [] σ' with
          | none => none
          | some (.inl v, σ2) => ip_run G (d' + 1) n t pc' L' (v.toList ++ st') σ2
          | some (.inr a, σ2) => (match ip_hnd t pc a with
            | none => some (.inr a, σ2)
            | some h => (match ip_ca t h L' with
              | none => none
              | some (pc2, L2) => ip_run G (d' + 1) n t pc2 L2 [] σ2))))
theorem ip_mono (G : Nat → Value) : ∀ (n d t pc : Nat) (L : List (Option Value)) (st : List Value) (σ : AH) (r : ip_Out × AH), ip_run G d n t pc L st σ = some r → ip_run G d (n + 1) t pc L st σ = some r := by
  intro n
  induction n with
  | zero => intro d t pc L st σ r h; cases h
  | succ n ih =>
    intro d t pc L st σ r h
    unfold ip_run at h ⊢
    split at h
    · cases h
    rename_i i aux hc
    split at h
    · cases h
    · exact ih _ _ _ _ _ _ _ h
    · exact h
    · split at h
      · exact h
      · split at h
        · cases h
        · exact ih _ _ _ _ _ _ _ h
    · split at h
      · cases h
      rename_i d' 
      split at h
      · cases h
      · rename_i hr
        rw [ih _ _ _ _ _ _ _ hr]
        exact ih _ _ _ _ _ _ _ h
      · rename_i hr
        rw [ih _ _ _ _ _ _ _ hr]
        dsimp only
        split at h
        · exact h
        · split at h
          · cases h
          · exact ih _ _ _ _ _ _ _ h
theorem ip_monoL (G : Nat → Value) {n n' d t pc : Nat} {L : List (Option Value)} {st : List Value} {σ : AH} {r : ip_Out × AH} (hn : n ≤ n') (h : ip_run G d n t pc L st σ = some r) : ip_run G d n' t pc L st σ = some r := by
  induction n' with
  | zero => rw [Nat.le_zero.mp hn] at h; exact h
  | succ k ih =>
    rcases Nat.lt_or_ge n (k + 1) with q | q
    · exact ip_mono G k d t pc L st σ r (ih (Nat.le_of_lt_succ q))
    · rw [Nat.le_antisymm hn q] at h; exact h
theorem ip_det (G : Nat → Value) {n n' d t pc : Nat} {L : List (Option Value)} {st : List Value} {σ : AH} {r r' : ip_Out × AH} (h : ip_run G d n t pc L st σ = some r) (h' : ip_run G d n' t pc L st σ = some r') : r = r' :=
  Option.some.inj ((ip_monoL G (Nat.le_max_left n n') h).symm.trans (ip_monoL G (Nat.le_max_right n n') h'))
/-- from here the method comes to an end that Q allows -/
def wp (G : Nat → Value) (d t pc : Nat) (L : List (Option Value)) (st : List Value) (σ : AH) (Q : ip_Out → AH → Prop) : Prop := ∃ (n : Nat) (r : ip_Out × AH), ip_run G d n t pc L st σ = some r ∧ Q r.1 r.2
/-- an object of class k is thrown in method t at pc -/
def wt (G : Nat → Value) (d t pc : Nat) (L : List (Option Value)) (k : Nat) (σ : AH) (Q : ip_Out → AH → Prop) : Prop := match ip_hnd t pc k with
  | none => Q (.inr k) σ
  | some h => (match ip_ca t h L with
    | none => False
    | some (pc', L') => wp G d t pc' L' [] σ Q)
/-- behind a call: it returned, or it threw -/
def wk (G : Nat → Value) (d t pc pc' : Nat) (L : List (Option Value)) (st : List Value) (Q : ip_Out → AH → Prop) : ip_Out → AH → Prop := fun r σ => match r with
  | .inl v => wp G d t pc' L (v.toList ++ st) σ Q
  | .inr a => wt G d t pc L a σ Q
theorem wp_mono {G : Nat → Value} {d t pc : Nat} {L : List (Option Value)} {st : List Value} {σ : AH} {Q Q' : ip_Out → AH → Prop} (h : wp G d t pc L st σ Q) (hq : ∀ r σ', Q r σ' → Q' r σ') : wp G d t pc L st σ Q' := by
  obtain ⟨n, r, h1, h2⟩ := h
  exact ⟨n, r, h1, hq _ _ h2⟩
/-! the machine's equations: what a run from here comes to, instruction by instruction -/
abbrev vI (z : Int) : Value := .int (Int32.ofInt z)
abbrev vJ (z : Int) : Value := .long (Int64.ofInt z)
/-- in the range of an int -/
abbrev rI (z : Int) : Prop := -2147483648 ≤ z ∧ z < 2147483648
section WP1
variable {G : Nat → Value} {d t pc : Nat} {L : List (Option Value)} {st : List Value} {σ : AH} {Q : ip_Out → AH → Prop} {i : Instr} {aux : List (Nat × Nat)}
theorem wp_nx {pc' : Nat} {L' : List (Option Value)} {st' : List Value} {σ' : AH} (hc : tb_code t pc = some (i, aux)) (ha : ip_act G (tb_wide t) (tb_ret t) i aux pc L st σ = ip_nx pc' L' st' σ') : wp G d t pc L st σ Q ↔ wp G d t pc' L' st' σ' Q := by
  constructor
  · rintro ⟨n, r, h, hq⟩
    cases n with
    | zero => cases h
    | succ n =>
      unfold ip_run at h
      rw [hc] at h
      dsimp only at h
      rw [ha] at h
      exact ⟨n, r, h, hq⟩
  · rintro ⟨n, r, h, hq⟩
    refine ⟨n + 1, r, ?_, hq⟩
    unfold ip_run
    rw [hc]
    dsimp only
    rw [ha]
    exact h
theorem wp_rt {v : Option Value} {σ' : AH} (hc : tb_code t pc = some (i, aux)) (ha : ip_act G (tb_wide t) (tb_ret t) i aux pc L st σ = ip_rt v σ') : wp G d t pc L st σ Q ↔ Q (.inl v) σ' := by
  constructor
  · rintro ⟨n, r, h, hq⟩
    cases n with
    | zero => cases h
    | succ n =>
      unfold ip_run at h
      rw [hc] at h
      dsimp only at h
      rw [ha] at h
      cases h
      exact hq
  · intro hq
    refine ⟨1, (.inl v, σ'), ?_, hq⟩
    unfold ip_run
    rw [hc]
    dsimp only
    rw [ha]
    rfl
theorem wp_th {a : Nat} {σ' : AH} (hc : tb_code t pc = some (i, aux)) (ha : ip_act G (tb_wide t) (tb_ret t) i aux pc L st σ = ip_th a σ') : wp G d t pc L st σ Q ↔ wt G d t pc L a σ' Q := by
  unfold wt
  constructor
  · rintro ⟨n, r, h, hq⟩
    cases n with
    | zero => cases h
    | succ n =>
      unfold ip_run at h
      rw [hc] at h
      dsimp only at h
      rw [ha] at h
      dsimp only [ip_th] at h
      split at h
      · cases h
        exact hq
      · split at h
        · cases h
        · exact ⟨n, r, h, hq⟩
  · intro h
    split at h
    · rename_i e
      refine ⟨1, (.inr a, σ'), ?_, h⟩
      unfold ip_run
      rw [hc]
      dsimp only
      rw [ha]
      dsimp only [ip_th]
      rw [e]
    · rename_i e
      split at h
      · exact h.elim
      · rename_i e3
        obtain ⟨n, r, h, hq⟩ := h
        refine ⟨n + 1, r, ?_, hq⟩
        unfold ip_run
        rw [hc]
        dsimp only
        rw [ha]
        dsimp only [ip_th]
        rw [e]
        dsimp only
        rw [e3]
        exact h
theorem wp_cl {t' pc' : Nat} {As : List Value} {st' : List Value} {σ' : AH} (hc : tb_code t pc = some (i, aux)) (ha : ip_act G (tb_wide t) (tb_ret t) i aux pc L st σ = ip_cw t' As pc' L st' σ') : wp G (d + 1) t pc L st σ Q ↔ wp G d t' 0 (ip_en (tb_maxl t') As) [] σ' (wk G (d + 1) t pc pc' L st' Q) := by
  constructor
  · rintro ⟨n, r, h, hq⟩
    cases n with
    | zero => cases h
    | succ n =>
      unfold ip_run at h
      rw [hc] at h
      dsimp only at h
      rw [ha] at h
      dsimp only [ip_cw] at h
      split at h
      · cases h
      · rename_i v σ2 e
        exact ⟨n, _, e, n, r, h, hq⟩
      · rename_i a σ2 e
        refine ⟨n, _, e, ?_⟩
        show wt G (d + 1) t pc L a σ2 Q
        unfold wt
        split at h
        · cases h
          exact hq
        · split at h
          · cases h
          · exact ⟨n, r, h, hq⟩
  · rintro ⟨n1, ⟨r1, σ2⟩, h1, hk⟩
    cases r1 with
    | inl v =>
      obtain ⟨n2, r, h2, hq⟩ := hk
      refine ⟨max n1 n2 + 1, r, ?_, hq⟩
      unfold ip_run
      rw [hc]
      dsimp only
      rw [ha]
      dsimp only [ip_cw]
      rw [ip_monoL G (Nat.le_max_left n1 n2) h1]
      exact ip_monoL G (Nat.le_max_right n1 n2) h2
    | inr a =>
      change wt G (d + 1) t pc L a σ2 Q at hk
      unfold wt at hk
      split at hk
      · rename_i e2
        refine ⟨n1 + 1, (.inr a, σ2), ?_, hk⟩
        unfold ip_run
        rw [hc]
        dsimp only
        rw [ha]
        dsimp only [ip_cw]
        rw [h1]
        dsimp only
        rw [e2]
      · rename_i e2
        split at hk
        · exact hk.elim
        · rename_i e3
          obtain ⟨n2, r, h2, hq⟩ := hk
          refine ⟨max n1 n2 + 1, r, ?_, hq⟩
          unfold ip_run
          rw [hc]
          dsimp only
          rw [ha]
          dsimp only [ip_cw]
          rw [ip_monoL G (Nat.le_max_left n1 n2) h1]
          dsimp only
          rw [e2]
          dsimp only
          rw [e3]
          exact ip_monoL G (Nat.le_max_right n1 n2) h2
theorem wt_no {k : Nat} (h : tb_hnd t = []) : wt G d t pc L k σ Q ↔ Q (.inr k) σ := by
  unfold wt ip_hnd
  rw [h]
  rfl
/-- a partial step -/
theorem wp_bd {α : Type} {o : Option α} {f : α → Nat × List (Option Value) × List Value × AH} (hc : tb_code t pc = some (i, aux)) (ha : ip_act G (tb_wide t) (tb_ret t) i aux pc L st σ = o.bind fun x => ip_nx (f x).1 (f x).2.1 (f x).2.2.1 (f x).2.2.2) : wp G d t pc L st σ Q ↔ ∃ x, o = some x ∧ wp G d t (f x).1 (f x).2.1 (f x).2.2.1 (f x).2.2.2 Q := by
  cases o with
  | none =>
    constructor
    · rintro ⟨n, r, h, hq⟩
      cases n with
      | zero => cases h
      | succ n =>
        unfold ip_run at h
        rw [hc] at h
        dsimp only at h
        rw [ha] at h
        cases h
    · rintro ⟨x, h, -⟩
      cases h
  | some x =>
    rw [wp_nx hc ha]
    constructor
    · exact fun h => ⟨x, rfl, h⟩
    · rintro ⟨y, h, k⟩
      cases h
      exact k
end WP1
/-! ints -/
theorem i_add (a b : Int) : Int32.ofInt a + Int32.ofInt b = Int32.ofInt (a + b) := (Int32.ofInt_add a b).symm
theorem i_sub (a b : Int) : Int32.ofInt a - Int32.ofInt b = Int32.ofInt (a - b) := (Int32.ofInt_sub a b).symm
theorem i_mul (a b : Int) : Int32.ofInt a * Int32.ofInt b = Int32.ofInt (a * b) := (Int32.ofInt_mul a b).symm
theorem i_neg (a : Int) : -Int32.ofInt a = Int32.ofInt (-a) := (Int32.ofInt_neg a).symm
theorem i_toInt {a : Int} (h : rI a) : (Int32.ofInt a).toInt = a := Int32.toInt_ofInt_of_le (by have := h.1; omega) (by have := h.2; omega)
theorem i_lt {a b : Int} (ha : rI a) (hb : rI b) : Int32.ofInt a < Int32.ofInt b ↔ a < b := by rw [Int32.lt_iff_toInt_lt, i_toInt ha, i_toInt hb]
theorem i_le {a b : Int} (ha : rI a) (hb : rI b) : Int32.ofInt a ≤ Int32.ofInt b ↔ a ≤ b := by rw [Int32.le_iff_toInt_le, i_toInt ha, i_toInt hb]
theorem i_eq {a b : Int} (ha : rI a) (hb : rI b) : Int32.ofInt a = Int32.ofInt b ↔ a = b := by rw [← Int32.toInt_inj, i_toInt ha, i_toInt hb]
theorem i_nat {a : Int} (h0 : 0 ≤ a) (h : a < 2147483648) : (Int32.ofInt a).toNatClampNeg = a.toNat := by
  rw [Int32.toNatClampNeg, i_toInt ⟨by omega, h⟩]
theorem i_self (x : Int32) : Int32.ofInt x.toInt = x := Int32.ofInt_toInt x
theorem i_range (x : Int32) : rI x.toInt := ⟨x.le_toInt, x.toInt_lt⟩
theorem i_div {a b : Int} (ha : rI a) (hb : 0 < b ∧ b < 2147483648) : Int32.ofInt a / Int32.ofInt b = Int32.ofInt (a.tdiv b) := by
  apply Int32.toInt_inj.mp
  rw [Int32.toInt_div, i_toInt ha, i_toInt ⟨by omega, hb.2⟩]
  exact (Int32.toInt_ofInt).symm
theorem i_rem {a b : Int} (ha : rI a) (hb : 0 < b ∧ b < 2147483648) : Int32.ofInt a - Int32.ofInt a / Int32.ofInt b * Int32.ofInt b = Int32.ofInt (a.tmod b) := by
  apply Int32.toInt_inj.mp
  have h1 := tmod_bounds (a := a) hb.1
  rw [rem_toInt, i_toInt ha, i_toInt ⟨by omega, hb.2⟩, i_toInt ⟨by omega, by omega⟩]
theorem i_i8 {z : Int} (h0 : -128 ≤ z) (h1 : z < 128) : (Int32.ofInt z).toInt8.toInt32 = Int32.ofInt z := by
  apply Int32.toInt_inj.mp
  rw [Int8.toInt_toInt32, Int32.toInt_toInt8, i_toInt ⟨by omega, by omega⟩]
  exact Int.bmod_eq_of_le (by omega) (by omega)
/-! one equation an opcode; instances of them, a row an instruction, are the x rows -/
section EL
variable {G : Nat → Value} {d t pc : Nat} {L : List (Option Value)} {st : List Value} {σ : AH} {Q : ip_Out → AH → Prop} {aux : List (Nat × Nat)}
theorem e_iconst {n : Int} (hc : tb_code t pc = some (.iconst n, aux)) : wp G d t pc L (st) σ Q ↔ wp G d t (pc + 1) L (vI n :: st) σ Q := wp_nx hc rfl
theorem e_bipush {n : Int} (hc : tb_code t pc = some (.bipush n, aux)) (hv : (Int8.ofInt n).toInt32 = Int32.ofInt n) : wp G d t pc L st σ Q ↔ wp G d t (pc + 2) L (vI n :: st) σ Q := wp_nx hc (by show ip_nx _ _ (.int (Int8.ofInt n).toInt32 :: st) σ = _; rw [hv])
theorem e_sipush {n : Int} (hc : tb_code t pc = some (.sipush n, aux)) (hv : (Int16.ofInt n).toInt32 = Int32.ofInt n) : wp G d t pc L st σ Q ↔ wp G d t (pc + 3) L (vI n :: st) σ Q := wp_nx hc (by show ip_nx _ _ (.int (Int16.ofInt n).toInt32 :: st) σ = _; rw [hv])
theorem e_lconst {n : Fin 2} {z : Int} (hc : tb_code t pc = some (.lconst n, aux)) (hv : Int64.ofNat (n : Nat) = Int64.ofInt z) : wp G d t pc L st σ Q ↔ wp G d t (pc + 1) L (vJ z :: st) σ Q := wp_nx hc (by show ip_nx _ _ (.long (Int64.ofNat (n : Nat)) :: st) σ = _; rw [hv])
theorem e_dconst0 (hc : tb_code t pc = some (.dconst 0, aux)) : wp G d t pc L (st) σ Q ↔ wp G d t (pc + 1) L (.double FP.dconst0 :: st) σ Q := wp_nx hc rfl
theorem e_aconst_null (hc : tb_code t pc = some (.aconst_null, aux)) : wp G d t pc L (st) σ Q ↔ wp G d t (pc + 1) L (.null :: st) σ Q := wp_nx hc rfl
theorem e_iload_n {k : Fin 4} {x : Int32} (hc : tb_code t pc = some (.iload_n k, aux)) (hl : L[(k : Nat)]? = some (some (.int x))) : wp G d t pc L st σ Q ↔ wp G d t (pc + 1) L (.int x :: st) σ Q := wp_nx hc (by unfold ip_act; dsimp only; unfold ip_ld ip_loadI; rw [hl]; rfl)
theorem e_iload {k : Nat} {x : Int32} (hc : tb_code t pc = some (.iload k, aux)) (hl : L[k]? = some (some (.int x))) : wp G d t pc L st σ Q ↔ wp G d t (pc + 2) L (.int x :: st) σ Q := wp_nx hc (by unfold ip_act; dsimp only; unfold ip_ld ip_loadI; rw [hl]; rfl)
theorem e_lload_n {k : Fin 4} {x : Int64} (hc : tb_code t pc = some (.lload_n k, aux)) (hl : L[(k : Nat)]? = some (some (.long x))) : wp G d t pc L st σ Q ↔ wp G d t (pc + 1) L (.long x :: st) σ Q := wp_nx hc (by unfold ip_act; dsimp only; unfold ip_ld ip_loadJ; rw [hl]; rfl)
theorem e_lload {k : Nat} {x : Int64} (hc : tb_code t pc = some (.lload k, aux)) (hl : L[k]? = some (some (.long x))) : wp G d t pc L st σ Q ↔ wp G d t (pc + 2) L (.long x :: st) σ Q := wp_nx hc (by unfold ip_act; dsimp only; unfold ip_ld ip_loadJ; rw [hl]; rfl)
theorem e_dload_n {k : Fin 4} {x : UInt64} (hc : tb_code t pc = some (.dload_n k, aux)) (hl : L[(k : Nat)]? = some (some (.double x))) : wp G d t pc L st σ Q ↔ wp G d t (pc + 1) L (.double x :: st) σ Q := wp_nx hc (by unfold ip_act; dsimp only; unfold ip_ld ip_loadD; rw [hl]; rfl)
theorem e_dload {k : Nat} {x : UInt64} (hc : tb_code t pc = some (.dload k, aux)) (hl : L[k]? = some (some (.double x))) : wp G d t pc L st σ Q ↔ wp G d t (pc + 2) L (.double x :: st) σ Q := wp_nx hc (by unfold ip_act; dsimp only; unfold ip_ld ip_loadD; rw [hl]; rfl)
theorem e_aload_n {k : Fin 4} {x : Nat} (hc : tb_code t pc = some (.aload_n k, aux)) (hl : L[(k : Nat)]? = some (some (.ref x))) : wp G d t pc L st σ Q ↔ wp G d t (pc + 1) L (.ref x :: st) σ Q := wp_nx hc (by unfold ip_act; dsimp only; unfold ip_ld ip_loadA; rw [hl]; rfl)
theorem e_aload {k : Nat} {x : Nat} (hc : tb_code t pc = some (.aload k, aux)) (hl : L[k]? = some (some (.ref x))) : wp G d t pc L st σ Q ↔ wp G d t (pc + 2) L (.ref x :: st) σ Q := wp_nx hc (by unfold ip_act; dsimp only; unfold ip_ld ip_loadA; rw [hl]; rfl)
theorem e_aload_nN {k : Fin 4} (hc : tb_code t pc = some (.aload_n k, aux)) (hl : L[(k : Nat)]? = some (some (.null))) : wp G d t pc L st σ Q ↔ wp G d t (pc + 1) L (.null :: st) σ Q := wp_nx hc (by unfold ip_act; dsimp only; unfold ip_ld ip_loadA; rw [hl]; rfl)
theorem e_aloadN {k : Nat} (hc : tb_code t pc = some (.aload k, aux)) (hl : L[k]? = some (some (.null))) : wp G d t pc L st σ Q ↔ wp G d t (pc + 2) L (.null :: st) σ Q := wp_nx hc (by unfold ip_act; dsimp only; unfold ip_ld ip_loadA; rw [hl]; rfl)
theorem e_istore_n {k : Fin 4} {x : Int32} (hc : tb_code t pc = some (.istore_n k, aux)) (hk : (k : Nat) < L.length) : wp G d t pc L (.int x :: st) σ Q ↔ wp G d t (pc + 1) (ip_st1 (tb_wide t) L k (.int x)) st σ Q := wp_nx hc (by unfold ip_act; dsimp only; unfold ip_sI; dsimp only; rw [if_pos hk])
theorem e_istore {k : Nat} {x : Int32} (hc : tb_code t pc = some (.istore k, aux)) (hk : k < L.length) : wp G d t pc L (.int x :: st) σ Q ↔ wp G d t (pc + 2) (ip_st1 (tb_wide t) L k (.int x)) st σ Q := wp_nx hc (by unfold ip_act; dsimp only; unfold ip_sI; dsimp only; rw [if_pos hk])
theorem e_astore_n {k : Fin 4} {x : Nat} (hc : tb_code t pc = some (.astore_n k, aux)) (hk : (k : Nat) < L.length) : wp G d t pc L (.ref x :: st) σ Q ↔ wp G d t (pc + 1) (ip_st1 (tb_wide t) L k (.ref x)) st σ Q := wp_nx hc (by unfold ip_act; dsimp only; unfold ip_sA; dsimp only; rw [if_pos hk])
theorem e_astore {k : Nat} {x : Nat} (hc : tb_code t pc = some (.astore k, aux)) (hk : k < L.length) : wp G d t pc L (.ref x :: st) σ Q ↔ wp G d t (pc + 2) (ip_st1 (tb_wide t) L k (.ref x)) st σ Q := wp_nx hc (by unfold ip_act; dsimp only; unfold ip_sA; dsimp only; rw [if_pos hk])
theorem e_astore_nN {k : Fin 4} (hc : tb_code t pc = some (.astore_n k, aux)) (hk : (k : Nat) < L.length) : wp G d t pc L (.null :: st) σ Q ↔ wp G d t (pc + 1) (ip_st1 (tb_wide t) L k (.null)) st σ Q := wp_nx hc (by unfold ip_act; dsimp only; unfold ip_sA; dsimp only; rw [if_pos hk])
theorem e_astoreN {k : Nat} (hc : tb_code t pc = some (.astore k, aux)) (hk : k < L.length) : wp G d t pc L (.null :: st) σ Q ↔ wp G d t (pc + 2) (ip_st1 (tb_wide t) L k (.null)) st σ Q := wp_nx hc (by unfold ip_act; dsimp only; unfold ip_sA; dsimp only; rw [if_pos hk])
theorem e_lstore_n {k : Fin 4} {x : Int64} (hc : tb_code t pc = some (.lstore_n k, aux)) (hk : (k : Nat) + 1 < L.length ∧ (tb_wide t).contains (k : Nat) = true) : wp G d t pc L (.long x :: st) σ Q ↔ wp G d t (pc + 1) (ip_st2 (tb_wide t) L k (.long x)) st σ Q := wp_nx hc (by unfold ip_act; dsimp only; unfold ip_sJ; dsimp only; rw [if_pos hk])
theorem e_lstore {k : Nat} {x : Int64} (hc : tb_code t pc = some (.lstore k, aux)) (hk : k + 1 < L.length ∧ (tb_wide t).contains k = true) : wp G d t pc L (.long x :: st) σ Q ↔ wp G d t (pc + 2) (ip_st2 (tb_wide t) L k (.long x)) st σ Q := wp_nx hc (by unfold ip_act; dsimp only; unfold ip_sJ; dsimp only; rw [if_pos hk])
theorem e_dstore {k : Nat} {x : UInt64} (hc : tb_code t pc = some (.dstore k, aux)) (hk : k + 1 < L.length ∧ (tb_wide t).contains k = true) : wp G d t pc L (.double x :: st) σ Q ↔ wp G d t (pc + 2) (ip_st2 (tb_wide t) L k (.double x)) st σ Q := wp_nx hc (by unfold ip_act; dsimp only; unfold ip_sD; dsimp only; rw [if_pos hk])
theorem e_iinc {k : Nat} {n z : Int} (hc : tb_code t pc = some (.iinc k n, aux)) (hl : L[k]? = some (some (vI z))) : wp G d t pc L st σ Q ↔ wp G d t (pc + 3) (ip_st1 (tb_wide t) L k (vI (z + n))) st σ Q := wp_nx hc (by unfold ip_act; dsimp only; unfold ip_inc; rw [hl]; dsimp only; rw [i_add])
theorem e_iadd {a b : Int} (hc : tb_code t pc = some (.iadd, aux)) : wp G d t pc L (vI b :: vI a :: st) σ Q ↔ wp G d t (pc + 1) L (vI (a + b) :: st) σ Q := wp_nx hc (by unfold ip_act ip_b2; dsimp only; rw [i_add])
theorem e_isub {a b : Int} (hc : tb_code t pc = some (.isub, aux)) : wp G d t pc L (vI b :: vI a :: st) σ Q ↔ wp G d t (pc + 1) L (vI (a - b) :: st) σ Q := wp_nx hc (by unfold ip_act ip_b2; dsimp only; rw [i_sub])
theorem e_imul {a b : Int} (hc : tb_code t pc = some (.imul, aux)) : wp G d t pc L (vI b :: vI a :: st) σ Q ↔ wp G d t (pc + 1) L (vI (a * b) :: st) σ Q := wp_nx hc (by unfold ip_act ip_b2; dsimp only; rw [i_mul])
theorem e_iand {a b : Int32} (hc : tb_code t pc = some (.iand, aux)) : wp G d t pc L (.int b :: .int a :: st) σ Q ↔ wp G d t (pc + 1) L (.int (a &&& b) :: st) σ Q := wp_nx hc rfl
theorem e_ior {a b : Int32} (hc : tb_code t pc = some (.ior, aux)) : wp G d t pc L (.int b :: .int a :: st) σ Q ↔ wp G d t (pc + 1) L (.int (a ||| b) :: st) σ Q := wp_nx hc rfl
theorem e_ishl {a b : Int32} (hc : tb_code t pc = some (.ishl, aux)) : wp G d t pc L (.int b :: .int a :: st) σ Q ↔ wp G d t (pc + 1) L (.int (a <<< (b &&& 31)) :: st) σ Q := wp_nx hc rfl
theorem e_ishr {a b : Int32} (hc : tb_code t pc = some (.ishr, aux)) : wp G d t pc L (.int b :: .int a :: st) σ Q ↔ wp G d t (pc + 1) L (.int (a >>> (b &&& 31)) :: st) σ Q := wp_nx hc rfl
theorem e_iushr {a b : Int32} (hc : tb_code t pc = some (.iushr, aux)) : wp G d t pc L (.int b :: .int a :: st) σ Q ↔ wp G d t (pc + 1) L (.int ((a.toUInt32 >>> (b.toUInt32 &&& Int32.toUInt32 31)).toInt32) :: st) σ Q := wp_nx hc rfl
theorem e_idiv {a b : Int} (hc : tb_code t pc = some (.idiv, aux)) (ha : rI a) (hb : 0 < b ∧ b < 2147483648) : wp G d t pc L (vI b :: vI a :: st) σ Q ↔ wp G d t (pc + 1) L (vI (a.tdiv b) :: st) σ Q := wp_nx hc (by unfold ip_act; dsimp only; unfold ip_b2z; dsimp only; rw [if_neg (fun h => by have := (i_eq (a := b) (b := 0) ⟨by omega, by omega⟩ ⟨by omega, by omega⟩).mp h; omega), i_div ha hb])
theorem e_irem {a b : Int} (hc : tb_code t pc = some (.irem, aux)) (ha : rI a) (hb : 0 < b ∧ b < 2147483648) : wp G d t pc L (vI b :: vI a :: st) σ Q ↔ wp G d t (pc + 1) L (vI (a.tmod b) :: st) σ Q := wp_nx hc (by unfold ip_act; dsimp only; unfold ip_b2z; dsimp only; rw [if_neg (fun h => by have := (i_eq (a := b) (b := 0) ⟨by omega, by omega⟩ ⟨by omega, by omega⟩).mp h; omega), i_rem ha hb])
theorem e_ineg {a : Int} (hc : tb_code t pc = some (.ineg, aux)) : wp G d t pc L (vI a :: st) σ Q ↔ wp G d t (pc + 1) L (vI (-a) :: st) σ Q := wp_nx hc (by unfold ip_act ip_u1; dsimp only; rw [i_neg])
theorem e_i2b {a : Int32} (hc : tb_code t pc = some (.i2b, aux)) : wp G d t pc L (.int a :: st) σ Q ↔ wp G d t (pc + 1) L (.int a.toInt8.toInt32 :: st) σ Q := wp_nx hc rfl
theorem e_i2c {a : Int32} (hc : tb_code t pc = some (.i2c, aux)) : wp G d t pc L (.int a :: st) σ Q ↔ wp G d t (pc + 1) L (.int (a.toUInt32 % 65536).toInt32 :: st) σ Q := wp_nx hc rfl
theorem e_i2l {a : Int32} (hc : tb_code t pc = some (.i2l, aux)) : wp G d t pc L (.int a :: st) σ Q ↔ wp G d t (pc + 1) L (.long a.toInt64 :: st) σ Q := wp_nx hc rfl
theorem e_i2d {a : Int32} (hc : tb_code t pc = some (.i2d, aux)) : wp G d t pc L (.int a :: st) σ Q ↔ wp G d t (pc + 1) L (.double (FP.i2d a) :: st) σ Q := wp_nx hc rfl
theorem e_l2i {a : Int64} (hc : tb_code t pc = some (.l2i, aux)) : wp G d t pc L (.long a :: st) σ Q ↔ wp G d t (pc + 1) L (.int a.toInt32 :: st) σ Q := wp_nx hc rfl
theorem e_ladd {a b : Int64} (hc : tb_code t pc = some (.ladd, aux)) : wp G d t pc L (.long b :: .long a :: st) σ Q ↔ wp G d t (pc + 1) L (.long (a + b) :: st) σ Q := wp_nx hc rfl
theorem e_lmul {a b : Int64} (hc : tb_code t pc = some (.lmul, aux)) : wp G d t pc L (.long b :: .long a :: st) σ Q ↔ wp G d t (pc + 1) L (.long (a * b) :: st) σ Q := wp_nx hc rfl
theorem e_lcmp {a b : Int64} (hc : tb_code t pc = some (.lcmp, aux)) : wp G d t pc L (.long b :: .long a :: st) σ Q ↔ wp G d t (pc + 1) L (.int (lg_cmp a b) :: st) σ Q := wp_nx hc rfl
theorem e_dcmp {op : CmpOp} {a b : UInt64} (hc : tb_code t pc = some (.dcmp op, aux)) : wp G d t pc L (.double b :: .double a :: st) σ Q ↔ wp G d t (pc + 1) L (.int (Op.cmpValue (FP.dcmp a b) op) :: st) σ Q := wp_nx hc rfl
theorem e_ddiv {a b : UInt64} (hc : tb_code t pc = some (.ddiv, aux)) (h : vf_n64 (FP.ddiv a b)) : wp G d t pc L (.double b :: .double a :: st) σ Q ↔ wp G d t (pc + 1) L (.double (FP.ddiv a b) :: st) σ Q := wp_nx hc (by unfold ip_act; dsimp only; unfold ip_d2; dsimp only; rw [if_pos (decide_eq_true (show FP.ddiv a b &&& 0x7fffffffffffffff ≤ 0x7ff0000000000000 from h))])
theorem e_dup {v : Value} (hc : tb_code t pc = some (.dup, aux)) (hv : v.category = 1) : wp G d t pc L (v :: st) σ Q ↔ wp G d t (pc + 1) L (v :: v :: st) σ Q := wp_nx hc (by unfold ip_act; dsimp only; unfold ip_dup; dsimp only; rw [if_pos hv])
theorem e_pop {v : Value} (hc : tb_code t pc = some (.pop, aux)) (hv : v.category = 1) : wp G d t pc L (v :: st) σ Q ↔ wp G d t (pc + 1) L st σ Q := wp_nx hc (by unfold ip_act; dsimp only; unfold ip_pop; dsimp only; rw [if_pos hv])
theorem e_dup_x1 {v w : Value} (hc : tb_code t pc = some (.dup_x1, aux)) (hv : v.category = 1) (hw : w.category = 1) : wp G d t pc L (v :: w :: st) σ Q ↔ wp G d t (pc + 1) L (v :: w :: v :: st) σ Q := wp_nx hc (by unfold ip_act; dsimp only; unfold ip_dupx; dsimp only; rw [if_pos ⟨hv, hw⟩])
theorem e_dup2 {v w : Value} (hc : tb_code t pc = some (.dup2, aux)) (hv : v.category = 1) (hw : w.category = 1) : wp G d t pc L (v :: w :: st) σ Q ↔ wp G d t (pc + 1) L (v :: w :: v :: w :: st) σ Q := wp_nx hc (by unfold ip_act; dsimp only; unfold ip_dup2; dsimp only; rw [if_pos ⟨hv, hw⟩])
theorem ip_jt_of {tgt : Nat} {off : Int} (h : (pc : Int) + off = (tgt : Int)) : ip_jt pc off = some tgt := by unfold ip_jt; rw [if_pos (by omega), h]; rfl
theorem e_goto {tgt : Nat} {off : Int} (hc : tb_code t pc = some (.goto off, aux)) (ht : (pc : Int) + off = (tgt : Int)) : wp G d t pc L st σ Q ↔ wp G d t tgt L st σ Q := wp_nx hc (by show (ip_jt pc off).bind _ = _; rw [ip_jt_of ht]; rfl)
theorem e_icmp_eq_t {a b : Int} {tgt : Nat} {off : Int} (hc : tb_code t pc = some (.if_icmp .eq off, aux)) (ht : (pc : Int) + off = (tgt : Int)) (ha : rI a) (hb : rI b) (h : a = b) : wp G d t pc L (vI b :: vI a :: st) σ Q ↔ wp G d t tgt L st σ Q := wp_nx hc (by unfold ip_act; dsimp only; unfold ip_br2; dsimp only; rw [ip_jt_of ht]; dsimp only [Option.bind]; rw [if_pos (show ip_cc .eq _ _ = true from decide_eq_true ((i_eq ha hb).mpr h))])
theorem e_if_eq_t {a : Int} {tgt : Nat} {off : Int} (hc : tb_code t pc = some (.ifCond .eq off, aux)) (ht : (pc : Int) + off = (tgt : Int)) (ha : rI a) (h : a = 0) : wp G d t pc L (vI a :: st) σ Q ↔ wp G d t tgt L st σ Q := wp_nx hc (by have hb : rI 0 := ⟨by omega, by omega⟩; unfold ip_act; dsimp only; unfold ip_br1; dsimp only; rw [ip_jt_of ht]; dsimp only [Option.bind]; rw [show (0 : Int32) = Int32.ofInt 0 from rfl]; rw [if_pos (show ip_cc .eq _ _ = true from decide_eq_true ((i_eq ha hb).mpr h))])
theorem e_icmp_eq_f {a b : Int} {tgt : Nat} {off : Int} (hc : tb_code t pc = some (.if_icmp .eq off, aux)) (ht : (pc : Int) + off = (tgt : Int)) (ha : rI a) (hb : rI b) (h : ¬ (a = b)) : wp G d t pc L (vI b :: vI a :: st) σ Q ↔ wp G d t (pc + 3) L st σ Q := wp_nx hc (by unfold ip_act; dsimp only; unfold ip_br2; dsimp only; rw [ip_jt_of ht]; dsimp only [Option.bind]; rw [if_neg (show ¬ ip_cc .eq _ _ = true from fun z => h ((i_eq ha hb).mp (of_decide_eq_true z)))])
theorem e_if_eq_f {a : Int} {tgt : Nat} {off : Int} (hc : tb_code t pc = some (.ifCond .eq off, aux)) (ht : (pc : Int) + off = (tgt : Int)) (ha : rI a) (h : ¬ (a = 0)) : wp G d t pc L (vI a :: st) σ Q ↔ wp G d t (pc + 3) L st σ Q := wp_nx hc (by have hb : rI 0 := ⟨by omega, by omega⟩; unfold ip_act; dsimp only; unfold ip_br1; dsimp only; rw [ip_jt_of ht]; dsimp only [Option.bind]; rw [show (0 : Int32) = Int32.ofInt 0 from rfl]; rw [if_neg (show ¬ ip_cc .eq _ _ = true from fun z => h ((i_eq ha hb).mp (of_decide_eq_true z)))])
theorem e_icmp_ne_t {a b : Int} {tgt : Nat} {off : Int} (hc : tb_code t pc = some (.if_icmp .ne off, aux)) (ht : (pc : Int) + off = (tgt : Int)) (ha : rI a) (hb : rI b) (h : ¬ a = b) : wp G d t pc L (vI b :: vI a :: st) σ Q ↔ wp G d t tgt L st σ Q := wp_nx hc (by unfold ip_act; dsimp only; unfold ip_br2; dsimp only; rw [ip_jt_of ht]; dsimp only [Option.bind]; rw [if_pos (show ip_cc .ne _ _ = true from decide_eq_true ((not_congr (i_eq ha hb)).mpr h))])
theorem e_if_ne_t {a : Int} {tgt : Nat} {off : Int} (hc : tb_code t pc = some (.ifCond .ne off, aux)) (ht : (pc : Int) + off = (tgt : Int)) (ha : rI a) (h : ¬ a = 0) : wp G d t pc L (vI a :: st) σ Q ↔ wp G d t tgt L st σ Q := wp_nx hc (by have hb : rI 0 := ⟨by omega, by omega⟩; unfold ip_act; dsimp only; unfold ip_br1; dsimp only; rw [ip_jt_of ht]; dsimp only [Option.bind]; rw [show (0 : Int32) = Int32.ofInt 0 from rfl]; rw [if_pos (show ip_cc .ne _ _ = true from decide_eq_true ((not_congr (i_eq ha hb)).mpr h))])
theorem e_icmp_ne_f {a b : Int} {tgt : Nat} {off : Int} (hc : tb_code t pc = some (.if_icmp .ne off, aux)) (ht : (pc : Int) + off = (tgt : Int)) (ha : rI a) (hb : rI b) (h : ¬ (¬ a = b)) : wp G d t pc L (vI b :: vI a :: st) σ Q ↔ wp G d t (pc + 3) L st σ Q := wp_nx hc (by unfold ip_act; dsimp only; unfold ip_br2; dsimp only; rw [ip_jt_of ht]; dsimp only [Option.bind]; rw [if_neg (show ¬ ip_cc .ne _ _ = true from fun z => h ((not_congr (i_eq ha hb)).mp (of_decide_eq_true z)))])
theorem e_if_ne_f {a : Int} {tgt : Nat} {off : Int} (hc : tb_code t pc = some (.ifCond .ne off, aux)) (ht : (pc : Int) + off = (tgt : Int)) (ha : rI a) (h : ¬ (¬ a = 0)) : wp G d t pc L (vI a :: st) σ Q ↔ wp G d t (pc + 3) L st σ Q := wp_nx hc (by have hb : rI 0 := ⟨by omega, by omega⟩; unfold ip_act; dsimp only; unfold ip_br1; dsimp only; rw [ip_jt_of ht]; dsimp only [Option.bind]; rw [show (0 : Int32) = Int32.ofInt 0 from rfl]; rw [if_neg (show ¬ ip_cc .ne _ _ = true from fun z => h ((not_congr (i_eq ha hb)).mp (of_decide_eq_true z)))])
theorem e_icmp_lt_t {a b : Int} {tgt : Nat} {off : Int} (hc : tb_code t pc = some (.if_icmp .lt off, aux)) (ht : (pc : Int) + off = (tgt : Int)) (ha : rI a) (hb : rI b) (h : a < b) : wp G d t pc L (vI b :: vI a :: st) σ Q ↔ wp G d t tgt L st σ Q := wp_nx hc (by unfold ip_act; dsimp only; unfold ip_br2; dsimp only; rw [ip_jt_of ht]; dsimp only [Option.bind]; rw [if_pos (show ip_cc .lt _ _ = true from decide_eq_true ((i_lt ha hb).mpr h))])
theorem e_if_lt_t {a : Int} {tgt : Nat} {off : Int} (hc : tb_code t pc = some (.ifCond .lt off, aux)) (ht : (pc : Int) + off = (tgt : Int)) (ha : rI a) (h : a < 0) : wp G d t pc L (vI a :: st) σ Q ↔ wp G d t tgt L st σ Q := wp_nx hc (by have hb : rI 0 := ⟨by omega, by omega⟩; unfold ip_act; dsimp only; unfold ip_br1; dsimp only; rw [ip_jt_of ht]; dsimp only [Option.bind]; rw [show (0 : Int32) = Int32.ofInt 0 from rfl]; rw [if_pos (show ip_cc .lt _ _ = true from decide_eq_true ((i_lt ha hb).mpr h))])
theorem e_icmp_lt_f {a b : Int} {tgt : Nat} {off : Int} (hc : tb_code t pc = some (.if_icmp .lt off, aux)) (ht : (pc : Int) + off = (tgt : Int)) (ha : rI a) (hb : rI b) (h : ¬ (a < b)) : wp G d t pc L (vI b :: vI a :: st) σ Q ↔ wp G d t (pc + 3) L st σ Q := wp_nx hc (by unfold ip_act; dsimp only; unfold ip_br2; dsimp only; rw [ip_jt_of ht]; dsimp only [Option.bind]; rw [if_neg (show ¬ ip_cc .lt _ _ = true from fun z => h ((i_lt ha hb).mp (of_decide_eq_true z)))])
theorem e_if_lt_f {a : Int} {tgt : Nat} {off : Int} (hc : tb_code t pc = some (.ifCond .lt off, aux)) (ht : (pc : Int) + off = (tgt : Int)) (ha : rI a) (h : ¬ (a < 0)) : wp G d t pc L (vI a :: st) σ Q ↔ wp G d t (pc + 3) L st σ Q := wp_nx hc (by have hb : rI 0 := ⟨by omega, by omega⟩; unfold ip_act; dsimp only; unfold ip_br1; dsimp only; rw [ip_jt_of ht]; dsimp only [Option.bind]; rw [show (0 : Int32) = Int32.ofInt 0 from rfl]; rw [if_neg (show ¬ ip_cc .lt _ _ = true from fun z => h ((i_lt ha hb).mp (of_decide_eq_true z)))])
theorem e_icmp_ge_t {a b : Int} {tgt : Nat} {off : Int} (hc : tb_code t pc = some (.if_icmp .ge off, aux)) (ht : (pc : Int) + off = (tgt : Int)) (ha : rI a) (hb : rI b) (h : b ≤ a) : wp G d t pc L (vI b :: vI a :: st) σ Q ↔ wp G d t tgt L st σ Q := wp_nx hc (by unfold ip_act; dsimp only; unfold ip_br2; dsimp only; rw [ip_jt_of ht]; dsimp only [Option.bind]; rw [if_pos (show ip_cc .ge _ _ = true from decide_eq_true ((i_le hb ha).mpr h))])
theorem e_if_ge_t {a : Int} {tgt : Nat} {off : Int} (hc : tb_code t pc = some (.ifCond .ge off, aux)) (ht : (pc : Int) + off = (tgt : Int)) (ha : rI a) (h : 0 ≤ a) : wp G d t pc L (vI a :: st) σ Q ↔ wp G d t tgt L st σ Q := wp_nx hc (by have hb : rI 0 := ⟨by omega, by omega⟩; unfold ip_act; dsimp only; unfold ip_br1; dsimp only; rw [ip_jt_of ht]; dsimp only [Option.bind]; rw [show (0 : Int32) = Int32.ofInt 0 from rfl]; rw [if_pos (show ip_cc .ge _ _ = true from decide_eq_true ((i_le hb ha).mpr h))])
theorem e_icmp_ge_f {a b : Int} {tgt : Nat} {off : Int} (hc : tb_code t pc = some (.if_icmp .ge off, aux)) (ht : (pc : Int) + off = (tgt : Int)) (ha : rI a) (hb : rI b) (h : ¬ (b ≤ a)) : wp G d t pc L (vI b :: vI a :: st) σ Q ↔ wp G d t (pc + 3) L st σ Q := wp_nx hc (by unfold ip_act; dsimp only; unfold ip_br2; dsimp only; rw [ip_jt_of ht]; dsimp only [Option.bind]; rw [if_neg (show ¬ ip_cc .ge _ _ = true from fun z => h ((i_le hb ha).mp (of_decide_eq_true z)))])
theorem e_if_ge_f {a : Int} {tgt : Nat} {off : Int} (hc : tb_code t pc = some (.ifCond .ge off, aux)) (ht : (pc : Int) + off = (tgt : Int)) (ha : rI a) (h : ¬ (0 ≤ a)) : wp G d t pc L (vI a :: st) σ Q ↔ wp G d t (pc + 3) L st σ Q := wp_nx hc (by have hb : rI 0 := ⟨by omega, by omega⟩; unfold ip_act; dsimp only; unfold ip_br1; dsimp only; rw [ip_jt_of ht]; dsimp only [Option.bind]; rw [show (0 : Int32) = Int32.ofInt 0 from rfl]; rw [if_neg (show ¬ ip_cc .ge _ _ = true from fun z => h ((i_le hb ha).mp (of_decide_eq_true z)))])
theorem e_icmp_gt_t {a b : Int} {tgt : Nat} {off : Int} (hc : tb_code t pc = some (.if_icmp .gt off, aux)) (ht : (pc : Int) + off = (tgt : Int)) (ha : rI a) (hb : rI b) (h : b < a) : wp G d t pc L (vI b :: vI a :: st) σ Q ↔ wp G d t tgt L st σ Q := wp_nx hc (by unfold ip_act; dsimp only; unfold ip_br2; dsimp only; rw [ip_jt_of ht]; dsimp only [Option.bind]; rw [if_pos (show ip_cc .gt _ _ = true from decide_eq_true ((i_lt hb ha).mpr h))])
theorem e_if_gt_t {a : Int} {tgt : Nat} {off : Int} (hc : tb_code t pc = some (.ifCond .gt off, aux)) (ht : (pc : Int) + off = (tgt : Int)) (ha : rI a) (h : 0 < a) : wp G d t pc L (vI a :: st) σ Q ↔ wp G d t tgt L st σ Q := wp_nx hc (by have hb : rI 0 := ⟨by omega, by omega⟩; unfold ip_act; dsimp only; unfold ip_br1; dsimp only; rw [ip_jt_of ht]; dsimp only [Option.bind]; rw [show (0 : Int32) = Int32.ofInt 0 from rfl]; rw [if_pos (show ip_cc .gt _ _ = true from decide_eq_true ((i_lt hb ha).mpr h))])
theorem e_icmp_gt_f {a b : Int} {tgt : Nat} {off : Int} (hc : tb_code t pc = some (.if_icmp .gt off, aux)) (ht : (pc : Int) + off = (tgt : Int)) (ha : rI a) (hb : rI b) (h : ¬ (b < a)) : wp G d t pc L (vI b :: vI a :: st) σ Q ↔ wp G d t (pc + 3) L st σ Q := wp_nx hc (by unfold ip_act; dsimp only; unfold ip_br2; dsimp only; rw [ip_jt_of ht]; dsimp only [Option.bind]; rw [if_neg (show ¬ ip_cc .gt _ _ = true from fun z => h ((i_lt hb ha).mp (of_decide_eq_true z)))])
theorem e_if_gt_f {a : Int} {tgt : Nat} {off : Int} (hc : tb_code t pc = some (.ifCond .gt off, aux)) (ht : (pc : Int) + off = (tgt : Int)) (ha : rI a) (h : ¬ (0 < a)) : wp G d t pc L (vI a :: st) σ Q ↔ wp G d t (pc + 3) L st σ Q := wp_nx hc (by have hb : rI 0 := ⟨by omega, by omega⟩; unfold ip_act; dsimp only; unfold ip_br1; dsimp only; rw [ip_jt_of ht]; dsimp only [Option.bind]; rw [show (0 : Int32) = Int32.ofInt 0 from rfl]; rw [if_neg (show ¬ ip_cc .gt _ _ = true from fun z => h ((i_lt hb ha).mp (of_decide_eq_true z)))])
theorem e_icmp_le_t {a b : Int} {tgt : Nat} {off : Int} (hc : tb_code t pc = some (.if_icmp .le off, aux)) (ht : (pc : Int) + off = (tgt : Int)) (ha : rI a) (hb : rI b) (h : a ≤ b) : wp G d t pc L (vI b :: vI a :: st) σ Q ↔ wp G d t tgt L st σ Q := wp_nx hc (by unfold ip_act; dsimp only; unfold ip_br2; dsimp only; rw [ip_jt_of ht]; dsimp only [Option.bind]; rw [if_pos (show ip_cc .le _ _ = true from decide_eq_true ((i_le ha hb).mpr h))])
theorem e_if_le_t {a : Int} {tgt : Nat} {off : Int} (hc : tb_code t pc = some (.ifCond .le off, aux)) (ht : (pc : Int) + off = (tgt : Int)) (ha : rI a) (h : a ≤ 0) : wp G d t pc L (vI a :: st) σ Q ↔ wp G d t tgt L st σ Q := wp_nx hc (by have hb : rI 0 := ⟨by omega, by omega⟩; unfold ip_act; dsimp only; unfold ip_br1; dsimp only; rw [ip_jt_of ht]; dsimp only [Option.bind]; rw [show (0 : Int32) = Int32.ofInt 0 from rfl]; rw [if_pos (show ip_cc .le _ _ = true from decide_eq_true ((i_le ha hb).mpr h))])
theorem e_icmp_le_f {a b : Int} {tgt : Nat} {off : Int} (hc : tb_code t pc = some (.if_icmp .le off, aux)) (ht : (pc : Int) + off = (tgt : Int)) (ha : rI a) (hb : rI b) (h : ¬ (a ≤ b)) : wp G d t pc L (vI b :: vI a :: st) σ Q ↔ wp G d t (pc + 3) L st σ Q := wp_nx hc (by unfold ip_act; dsimp only; unfold ip_br2; dsimp only; rw [ip_jt_of ht]; dsimp only [Option.bind]; rw [if_neg (show ¬ ip_cc .le _ _ = true from fun z => h ((i_le ha hb).mp (of_decide_eq_true z)))])
theorem e_if_le_f {a : Int} {tgt : Nat} {off : Int} (hc : tb_code t pc = some (.ifCond .le off, aux)) (ht : (pc : Int) + off = (tgt : Int)) (ha : rI a) (h : ¬ (a ≤ 0)) : wp G d t pc L (vI a :: st) σ Q ↔ wp G d t (pc + 3) L st σ Q := wp_nx hc (by have hb : rI 0 := ⟨by omega, by omega⟩; unfold ip_act; dsimp only; unfold ip_br1; dsimp only; rw [ip_jt_of ht]; dsimp only [Option.bind]; rw [show (0 : Int32) = Int32.ofInt 0 from rfl]; rw [if_neg (show ¬ ip_cc .le _ _ = true from fun z => h ((i_le ha hb).mp (of_decide_eq_true z)))])
theorem e_acmp_eq_t {a b tgt : Nat} {off : Int} (hc : tb_code t pc = some (.if_acmp .eq off, aux)) (ht : (pc : Int) + off = (tgt : Int)) (h : a = b) : wp G d t pc L (.ref b :: .ref a :: st) σ Q ↔ wp G d t tgt L st σ Q := wp_nx hc (by unfold ip_act; dsimp only; unfold ip_bra; dsimp only; rw [if_pos ⟨rfl, rfl⟩, ip_jt_of ht]; dsimp only [Option.bind, ip_ac]; subst h; simp [ip_nx])
theorem e_acmp_eq_f {a b tgt : Nat} {off : Int} (hc : tb_code t pc = some (.if_acmp .eq off, aux)) (ht : (pc : Int) + off = (tgt : Int)) (h : ¬ a = b) : wp G d t pc L (.ref b :: .ref a :: st) σ Q ↔ wp G d t (pc + 3) L st σ Q := wp_nx hc (by unfold ip_act; dsimp only; unfold ip_bra; dsimp only; rw [if_pos ⟨rfl, rfl⟩, ip_jt_of ht]; dsimp only [Option.bind, ip_ac]; simp [ip_nx, fun e : b = a => h e.symm, h])
theorem e_acmp_eq_nn {tgt : Nat} {off : Int} (hc : tb_code t pc = some (.if_acmp .eq off, aux)) (ht : (pc : Int) + off = (tgt : Int)) : wp G d t pc L (.null :: .null :: st) σ Q ↔ wp G d t tgt L st σ Q := wp_nx hc (by unfold ip_act; dsimp only; unfold ip_bra; dsimp only; rw [if_pos ⟨rfl, rfl⟩, ip_jt_of ht]; dsimp only [Option.bind, ip_ac]; simp [ip_nx])
theorem e_acmp_eq_nr {a : Nat} {tgt : Nat} {off : Int} (hc : tb_code t pc = some (.if_acmp .eq off, aux)) (ht : (pc : Int) + off = (tgt : Int)) : wp G d t pc L (.null :: .ref a :: st) σ Q ↔ wp G d t (pc + 3) L st σ Q := wp_nx hc (by unfold ip_act; dsimp only; unfold ip_bra; dsimp only; rw [if_pos ⟨rfl, rfl⟩, ip_jt_of ht]; dsimp only [Option.bind, ip_ac]; simp [ip_nx])
theorem e_acmp_eq_rn {a : Nat} {tgt : Nat} {off : Int} (hc : tb_code t pc = some (.if_acmp .eq off, aux)) (ht : (pc : Int) + off = (tgt : Int)) : wp G d t pc L (.ref a :: .null :: st) σ Q ↔ wp G d t (pc + 3) L st σ Q := wp_nx hc (by unfold ip_act; dsimp only; unfold ip_bra; dsimp only; rw [if_pos ⟨rfl, rfl⟩, ip_jt_of ht]; dsimp only [Option.bind, ip_ac]; simp [ip_nx])
theorem e_acmp_ne_t {a b tgt : Nat} {off : Int} (hc : tb_code t pc = some (.if_acmp .ne off, aux)) (ht : (pc : Int) + off = (tgt : Int)) (h : ¬ a = b) : wp G d t pc L (.ref b :: .ref a :: st) σ Q ↔ wp G d t tgt L st σ Q := wp_nx hc (by unfold ip_act; dsimp only; unfold ip_bra; dsimp only; rw [if_pos ⟨rfl, rfl⟩, ip_jt_of ht]; dsimp only [Option.bind, ip_ac]; simp [ip_nx, fun e : b = a => h e.symm, h])
theorem e_acmp_ne_f {a b tgt : Nat} {off : Int} (hc : tb_code t pc = some (.if_acmp .ne off, aux)) (ht : (pc : Int) + off = (tgt : Int)) (h : a = b) : wp G d t pc L (.ref b :: .ref a :: st) σ Q ↔ wp G d t (pc + 3) L st σ Q := wp_nx hc (by unfold ip_act; dsimp only; unfold ip_bra; dsimp only; rw [if_pos ⟨rfl, rfl⟩, ip_jt_of ht]; dsimp only [Option.bind, ip_ac]; subst h; simp [ip_nx])
theorem e_acmp_ne_nn {tgt : Nat} {off : Int} (hc : tb_code t pc = some (.if_acmp .ne off, aux)) (ht : (pc : Int) + off = (tgt : Int)) : wp G d t pc L (.null :: .null :: st) σ Q ↔ wp G d t (pc + 3) L st σ Q := wp_nx hc (by unfold ip_act; dsimp only; unfold ip_bra; dsimp only; rw [if_pos ⟨rfl, rfl⟩, ip_jt_of ht]; dsimp only [Option.bind, ip_ac]; simp [ip_nx])
theorem e_acmp_ne_nr {a : Nat} {tgt : Nat} {off : Int} (hc : tb_code t pc = some (.if_acmp .ne off, aux)) (ht : (pc : Int) + off = (tgt : Int)) : wp G d t pc L (.null :: .ref a :: st) σ Q ↔ wp G d t tgt L st σ Q := wp_nx hc (by unfold ip_act; dsimp only; unfold ip_bra; dsimp only; rw [if_pos ⟨rfl, rfl⟩, ip_jt_of ht]; dsimp only [Option.bind, ip_ac]; simp [ip_nx])
theorem e_acmp_ne_rn {a : Nat} {tgt : Nat} {off : Int} (hc : tb_code t pc = some (.if_acmp .ne off, aux)) (ht : (pc : Int) + off = (tgt : Int)) : wp G d t pc L (.ref a :: .null :: st) σ Q ↔ wp G d t tgt L st σ Q := wp_nx hc (by unfold ip_act; dsimp only; unfold ip_bra; dsimp only; rw [if_pos ⟨rfl, rfl⟩, ip_jt_of ht]; dsimp only [Option.bind, ip_ac]; simp [ip_nx])
theorem e_ifnull_n {tgt : Nat} {off : Int} (hc : tb_code t pc = some (.ifnull off, aux)) (ht : (pc : Int) + off = (tgt : Int)) : wp G d t pc L (.null :: st) σ Q ↔ wp G d t tgt L st σ Q := wp_nx hc (by unfold ip_act; dsimp only; unfold ip_brn; dsimp only; rw [ip_jt_of ht]; rfl)
theorem e_ifnull_r {a : Nat} {tgt : Nat} {off : Int} (hc : tb_code t pc = some (.ifnull off, aux)) (ht : (pc : Int) + off = (tgt : Int)) : wp G d t pc L (.ref a :: st) σ Q ↔ wp G d t (pc + 3) L st σ Q := wp_nx hc (by unfold ip_act; dsimp only; unfold ip_brn; dsimp only; rw [ip_jt_of ht]; rfl)
theorem e_ifnonnull_n {tgt : Nat} {off : Int} (hc : tb_code t pc = some (.ifnonnull off, aux)) (ht : (pc : Int) + off = (tgt : Int)) : wp G d t pc L (.null :: st) σ Q ↔ wp G d t (pc + 3) L st σ Q := wp_nx hc (by unfold ip_act; dsimp only; unfold ip_brn; dsimp only; rw [ip_jt_of ht]; rfl)
theorem e_ifnonnull_r {a : Nat} {tgt : Nat} {off : Int} (hc : tb_code t pc = some (.ifnonnull off, aux)) (ht : (pc : Int) + off = (tgt : Int)) : wp G d t pc L (.ref a :: st) σ Q ↔ wp G d t tgt L st σ Q := wp_nx hc (by unfold ip_act; dsimp only; unfold ip_brn; dsimp only; rw [ip_jt_of ht]; rfl)
theorem e_tsw_in {z : Int} {dflt lo hi off : Int} {offs : Array Int} {tgt : Nat} (hc : tb_code t pc = some (.tableswitch dflt lo hi offs, aux)) (hz : rI z) (j : Nat) (hj : z = lo + j) (hh : z ≤ hi) (ho : offs[j]? = some off) (ht : (pc : Int) + off = (tgt : Int)) : wp G d t pc L (vI z :: st) σ Q ↔ wp G d t tgt L st σ Q := wp_nx hc (by
  unfold ip_act
  dsimp only
  unfold ip_tsw
  dsimp only
  rw [i_toInt hz, if_neg (by omega), show (z - lo).toNat = j by omega, ho]
  dsimp only [Option.bind]
  rw [ip_jt_of ht])
theorem e_tsw_out {z : Int} {dflt lo hi : Int} {offs : Array Int} {tgt : Nat} (hc : tb_code t pc = some (.tableswitch dflt lo hi offs, aux)) (hz : rI z) (h : z < lo ∨ hi < z) (ht : (pc : Int) + dflt = (tgt : Int)) : wp G d t pc L (vI z :: st) σ Q ↔ wp G d t tgt L st σ Q := wp_nx hc (by
  unfold ip_act
  dsimp only
  unfold ip_tsw
  dsimp only
  rw [i_toInt hz, if_pos h, ip_jt_of ht]
  dsimp only [Option.bind])
theorem e_getfield {idx k j a : Nat} (hc : tb_code t pc = some (.getfield idx, [(k, j)])) : wp G d t pc L (.ref a :: st) σ Q ↔ ∃ v, ah_fld σ a k j = some v ∧ wp G d t (pc + 3) L (v :: st) σ Q := wp_bd (f := fun v => (pc + 3, L, v :: st, σ)) hc rfl
theorem e_putfield {idx k j a : Nat} {v : Value} (hc : tb_code t pc = some (.putfield idx, [(k, j)])) (hf : ip_fit (tb_fty k j) v = true) : wp G d t pc L (v :: .ref a :: st) σ Q ↔ ∃ σ', ah_put σ a k j v = some σ' ∧ wp G d t (pc + 3) L st σ' Q := wp_bd (f := fun σ' => (pc + 3, L, st, σ')) hc (by unfold ip_act; dsimp only; unfold ip_putf; dsimp only; rw [if_pos hf])
theorem e_getstatic {idx g : Nat} (hc : tb_code t pc = some (.getstatic idx, [(g, 0)])) : wp G d t pc L st σ Q ↔ wp G d t (pc + 3) L (G g :: st) σ Q := wp_nx hc rfl
theorem e_ldc {idx g : Nat} (hc : tb_code t pc = some (.ldc idx, [(g, 0)])) : wp G d t pc L st σ Q ↔ wp G d t (pc + 2) L (G g :: st) σ Q := wp_nx hc rfl
theorem e_ldcC {idx g : Nat} (hc : tb_code t pc = some (.ldc idx, [(g, 1)])) : wp G d t pc L st σ Q ↔ wp G d t (pc + 2) L (tb_cst g :: st) σ Q := wp_nx hc rfl
theorem e_ldc_w {idx g : Nat} (hc : tb_code t pc = some (.ldc_w idx, [(g, 1)])) : wp G d t pc L st σ Q ↔ wp G d t (pc + 3) L (tb_cst g :: st) σ Q := wp_nx hc rfl
theorem e_ldc2_w {idx g : Nat} (hc : tb_code t pc = some (.ldc2_w idx, [(g, 1)])) : wp G d t pc L st σ Q ↔ wp G d t (pc + 3) L (tb_cst g :: st) σ Q := wp_nx hc rfl
theorem e_arraylength {a : Nat} (hc : tb_code t pc = some (.arraylength, aux)) : wp G d t pc L (.ref a :: st) σ Q ↔ ∃ n, ah_len σ a = some n ∧ wp G d t (pc + 1) L (vI n :: st) σ Q := wp_bd (f := fun (n : Nat) => (pc + 1, L, vI (n : Int) :: st, σ)) hc rfl
theorem i_nlt {z : Int} (h : 0 ≤ z) (h2 : z < 2147483648) : ¬ Int32.ofInt z < 0 := fun h3 => by have := (i_lt (a := z) (b := 0) ⟨by omega, h2⟩ ⟨by omega, by omega⟩).mp h3; omega
theorem e_iaload {z : Int} {a : Nat} (hc : tb_code t pc = some (.iaload, aux)) (h0 : 0 ≤ z) (h1 : z < 2147483648) : wp G d t pc L (vI z :: .ref a :: st) σ Q ↔ ∃ v, ah_ald σ a .int z.toNat = some v ∧ wp G d t (pc + 1) L (v :: st) σ Q := wp_bd (f := fun v => (pc + 1, L, v :: st, σ)) hc (by unfold ip_act; dsimp only; unfold ip_ald; dsimp only; rw [if_neg (i_nlt h0 h1), i_nat h0 h1])
theorem e_laload {z : Int} {a : Nat} (hc : tb_code t pc = some (.laload, aux)) (h0 : 0 ≤ z) (h1 : z < 2147483648) : wp G d t pc L (vI z :: .ref a :: st) σ Q ↔ ∃ v, ah_ald σ a .long z.toNat = some v ∧ wp G d t (pc + 1) L (v :: st) σ Q := wp_bd (f := fun v => (pc + 1, L, v :: st, σ)) hc (by unfold ip_act; dsimp only; unfold ip_ald; dsimp only; rw [if_neg (i_nlt h0 h1), i_nat h0 h1])
theorem e_baload {z : Int} {a : Nat} (hc : tb_code t pc = some (.baload, [])) (h0 : 0 ≤ z) (h1 : z < 2147483648) : wp G d t pc L (vI z :: .ref a :: st) σ Q ↔ ∃ v, ah_ald σ a .byte z.toNat = some v ∧ wp G d t (pc + 1) L (v :: st) σ Q := wp_bd (f := fun v => (pc + 1, L, v :: st, σ)) hc (by unfold ip_act; dsimp only; unfold ip_ald; dsimp only; rw [if_neg (i_nlt h0 h1), i_nat h0 h1, if_pos rfl])
theorem e_zaload {x : Nat × Nat} {z : Int} {a : Nat} (hc : tb_code t pc = some (.baload, [x])) (h0 : 0 ≤ z) (h1 : z < 2147483648) : wp G d t pc L (vI z :: .ref a :: st) σ Q ↔ ∃ v, ah_ald σ a .boolean z.toNat = some v ∧ wp G d t (pc + 1) L (v :: st) σ Q := wp_bd (f := fun v => (pc + 1, L, v :: st, σ)) hc (by unfold ip_act; dsimp only; rw [if_neg (by simp)]; unfold ip_ald; dsimp only; rw [if_neg (i_nlt h0 h1), i_nat h0 h1])
theorem e_aaload {k y : Nat} {z : Int} {a : Nat} (hc : tb_code t pc = some (.aaload, [(k, y)])) (h0 : 0 ≤ z) (h1 : z < 2147483648) : wp G d t pc L (vI z :: .ref a :: st) σ Q ↔ ∃ v, ah_ald σ a (tb_aty k) z.toNat = some v ∧ wp G d t (pc + 1) L (v :: st) σ Q := wp_bd (f := fun v => (pc + 1, L, v :: st, σ)) hc (by unfold ip_act; dsimp only; unfold ip_ald; dsimp only; rw [if_neg (i_nlt h0 h1), i_nat h0 h1])
theorem e_iastore {z : Int} {x : Int32} {a : Nat} (hc : tb_code t pc = some (.iastore, aux)) (h0 : 0 ≤ z) (h1 : z < 2147483648) : wp G d t pc L (.int x :: vI z :: .ref a :: st) σ Q ↔ ∃ σ', ah_ast σ a .int z.toNat (.int x) = some σ' ∧ wp G d t (pc + 1) L st σ' Q := wp_bd (f := fun σ' => (pc + 1, L, st, σ')) hc (by unfold ip_act; dsimp only; unfold ip_astI; dsimp only; rw [if_neg (i_nlt h0 h1), i_nat h0 h1]; rfl)
theorem e_bastore {z y : Int} {a : Nat} (hc : tb_code t pc = some (.bastore, [])) (h0 : 0 ≤ z) (h1 : z < 2147483648) (hy : -128 ≤ y ∧ y < 128) : wp G d t pc L (vI y :: vI z :: .ref a :: st) σ Q ↔ ∃ σ', ah_ast σ a .byte z.toNat (vI y) = some σ' ∧ wp G d t (pc + 1) L st σ' Q := wp_bd (f := fun σ' => (pc + 1, L, st, σ')) hc (by unfold ip_act; dsimp only; unfold ip_astI; dsimp only; rw [if_neg (i_nlt h0 h1), i_nat h0 h1, if_pos rfl, vp_nar_byte, i_i8 hy.1 hy.2])
theorem e_zastore {x : Nat × Nat} {z y : Int} {a : Nat} (hc : tb_code t pc = some (.bastore, [x])) (h0 : 0 ≤ z) (h1 : z < 2147483648) (hy : y = 0 ∨ y = 1) : wp G d t pc L (vI y :: vI z :: .ref a :: st) σ Q ↔ ∃ σ', ah_ast σ a .boolean z.toNat (vI y) = some σ' ∧ wp G d t (pc + 1) L st σ' Q := wp_bd (f := fun σ' => (pc + 1, L, st, σ')) hc (by unfold ip_act; dsimp only; rw [if_neg (by simp)]; unfold ip_astI; dsimp only; rw [if_neg (i_nlt h0 h1), i_nat h0 h1]; rcases hy with rfl | rfl <;> rfl)
theorem e_lastore {z : Int} {x : Int64} {a : Nat} (hc : tb_code t pc = some (.lastore, aux)) (h0 : 0 ≤ z) (h1 : z < 2147483648) : wp G d t pc L (.long x :: vI z :: .ref a :: st) σ Q ↔ ∃ σ', ah_ast σ a .long z.toNat (.long x) = some σ' ∧ wp G d t (pc + 1) L st σ' Q := wp_bd (f := fun σ' => (pc + 1, L, st, σ')) hc (by unfold ip_act; dsimp only; unfold ip_astJ; dsimp only; rw [if_neg (i_nlt h0 h1), i_nat h0 h1])
theorem e_aastore {k y : Nat} {ks : List (Nat × Nat)} {z : Int} {v kv : Nat} {a : Nat} (hc : tb_code t pc = some (.aastore, (k, y) :: ks)) (h0 : 0 ≤ z) (h1 : z < 2147483648) (hv : ah_cls σ v = some kv) (hk : ks.contains (kv, 0) = true) : wp G d t pc L (.ref v :: vI z :: .ref a :: st) σ Q ↔ ∃ σ', ah_ast σ a (tb_aty k) z.toNat (.ref v) = some σ' ∧ wp G d t (pc + 1) L st σ' Q := wp_bd (f := fun σ' => (pc + 1, L, st, σ')) hc (by unfold ip_act; dsimp only; unfold ip_astA; dsimp only; rw [if_neg (i_nlt h0 h1), i_nat h0 h1, hv]; dsimp only [Option.bind]; rw [if_pos hk])
theorem e_new {idx k : Nat} (hc : tb_code t pc = some (.new idx, [(k, 0)])) : wp G d t pc L st σ Q ↔ wp G d t (pc + 3) L (.ref σ.2.1 :: st) (ah_new σ (.inr (k, tb_dfl k)) (tb_dfl k).length) Q := wp_nx hc rfl
theorem e_newX {idx k : Nat} (hc : tb_code t pc = some (.new idx, [(k, 1)])) (hs : st.length ≤ 4) : wp G d t pc L st σ Q ↔ wp G d t (pc + 7) L (.ref σ.2.1 :: st) (ah_new σ (.inr (k, [])) 6) Q := wp_nx hc (by show (if st.length ≤ 4 then ip_nx (pc + 7) L (.ref σ.2.1 :: st) (ah_new σ (.inr (k, [])) 6) else none) = _; rw [if_pos hs])
theorem i_new {z : Int} (h0 : 0 ≤ z) (h1 : z < 60000000) : ¬ (Int32.ofInt z < 0 ∨ (60000000 : Int32) ≤ Int32.ofInt z) := by
  rintro (h | h)
  · exact i_nlt h0 (by omega) h
  · have := (i_le (a := 60000000) (b := z) ⟨by omega, by omega⟩ ⟨by omega, by omega⟩).mp h
    omega
theorem e_newarray {ty : ArrayType} {z : Int} (hc : tb_code t pc = some (.newarray ty, aux)) (h0 : 0 ≤ z) (h1 : z < 60000000) : wp G d t pc L (vI z :: st) σ Q ↔ wp G d t (pc + 2) L (.ref σ.2.1 :: st) (ah_new σ (.inl (newarray.typeOf ty, z.toNat, fun _ => defaultValue (newarray.typeOf ty))) z.toNat) Q := wp_nx hc (by unfold ip_act; dsimp only; unfold ip_newa; dsimp only; rw [if_neg (i_new h0 h1), i_nat h0 (by omega)])
theorem e_anewarray {idx k y : Nat} {z : Int} (hc : tb_code t pc = some (.anewarray idx, [(k, y)])) (h0 : 0 ≤ z) (h1 : z < 60000000) : wp G d t pc L (vI z :: st) σ Q ↔ wp G d t (pc + 3) L (.ref σ.2.1 :: st) (ah_new σ (.inl (tb_aty k, z.toNat, fun _ => .null)) z.toNat) Q := wp_nx hc (by unfold ip_act; dsimp only; unfold ip_newa; dsimp only; rw [if_neg (i_new h0 h1), i_nat h0 (by omega)])
def ah_grid (σ : AH) : AH := (fun q => if q = σ.2.1 then some (true, .inl (.array .int, 5, fun i => .ref (σ.2.1 + 1 + i))) else if σ.2.1 < q ∧ q < σ.2.1 + 6 then some (true, .inl (.int, 5, fun _ => .int 0)) else σ.1 q, σ.2.1 + 6, σ.2.2 + 30)
theorem e_grid {idx dm : Nat} (hc : tb_code t pc = some (.multianewarray idx dm, aux)) : wp G d t pc L (vI 5 :: vI 5 :: st) σ Q ↔ wp G d t (pc + 4) L (.ref σ.2.1 :: st) (ah_grid σ) Q := wp_nx hc (by unfold ip_act; dsimp only; unfold ip_grid; dsimp only; rw [if_pos ⟨rfl, rfl⟩]; rfl)
theorem e_castN {idx : Nat} (hc : tb_code t pc = some (.checkcast idx, aux)) : wp G d t pc L (.null :: st) σ Q ↔ wp G d t (pc + 3) L (.null :: st) σ Q := wp_nx hc rfl
theorem e_cast {idx k a : Nat} (hc : tb_code t pc = some (.checkcast idx, aux)) (hk : ah_cls σ a = some k) (hx : aux.contains (k, 1) = true) : wp G d t pc L (.ref a :: st) σ Q ↔ wp G d t (pc + 3) L (.ref a :: st) σ Q := wp_nx hc (by unfold ip_act; dsimp only; unfold ip_cast; dsimp only; rw [hk]; dsimp only [Option.bind]; rw [if_pos hx])
theorem e_inst1 {idx k a : Nat} (hc : tb_code t pc = some (.instanceof idx, aux)) (hk : ah_cls σ a = some k) (hx : aux.contains (k, 1) = true) : wp G d t pc L (.ref a :: st) σ Q ↔ wp G d t (pc + 3) L (vI 1 :: st) σ Q := wp_nx hc (by unfold ip_act; dsimp only; unfold ip_inst; dsimp only; rw [hk]; dsimp only [Option.bind]; rw [if_pos hx]; rfl)
theorem e_inst0 {idx k a : Nat} (hc : tb_code t pc = some (.instanceof idx, aux)) (hk : ah_cls σ a = some k) (hx : aux.contains (k, 1) = false) (hy : aux.contains (k, 0) = true) : wp G d t pc L (.ref a :: st) σ Q ↔ wp G d t (pc + 3) L (vI 0 :: st) σ Q := wp_nx hc (by unfold ip_act; dsimp only; unfold ip_inst; dsimp only; rw [hk]; dsimp only [Option.bind]; rw [if_neg (by rw [hx]; decide), if_pos hy]; rfl)
theorem ip_pk_of {n : Nat} {As st' : List Value} (h : st = As.reverse ++ st') (hn : As.length = n) (hs : st'.length ≤ 4) : ip_pk n st = some (As, st') := by
  subst hn
  subst h
  unfold ip_pk
  rw [show As.length = As.reverse.length from (List.length_reverse).symm, List.drop_left, List.take_left, List.reverse_reverse, if_pos ⟨by simp, hs⟩]
theorem e_copy {idx y : Nat} {sp dp n : Int} {a0 a1 : Nat} (hc : tb_code t pc = some (.invokestatic idx, [(y, 9000)])) (h1 : 0 ≤ sp ∧ sp < 2147483648) (h2 : 0 ≤ dp ∧ dp < 2147483648) (h3 : 0 ≤ n ∧ n < 2147483648) (h4 : st.length ≤ 4) : wp G d t pc L (vI n :: vI dp :: .ref a1 :: vI sp :: .ref a0 :: st) σ Q ↔ ∃ σ', ah_cpy σ a0 sp.toNat a1 dp.toNat n.toNat = some σ' ∧ wp G d t (pc + 3) L st σ' Q := wp_bd (f := fun σ' => (pc + 3, L, st, σ')) hc (by
  unfold ip_act
  dsimp only
  unfold ip_ivs
  dsimp only
  rw [if_pos rfl]
  unfold ip_copy
  dsimp only
  rw [if_neg (by rintro (h | h | h | h); exact i_nlt h1.1 h1.2 h; exact i_nlt h2.1 h2.2 h; exact i_nlt h3.1 h3.2 h; omega), i_nat h1.1 h1.2, i_nat h2.1 h2.2, i_nat h3.1 h3.2])
theorem e_oinit {idx y a : Nat} {k : Nat} (hc : tb_code t pc = some (.invokespecial idx, [(y, 9001)])) (hk : ah_cls σ a = some k) (h4 : st.length ≤ 4) : wp G d t pc L (.ref a :: st) σ Q ↔ wp G d t (pc + 3) L st σ Q := wp_nx hc (by
  unfold ip_act ip_ivp
  dsimp only
  rw [if_pos rfl, ip_pk_of (n := 1) (st := .ref a :: st) (As := [.ref a]) (st' := st) rfl rfl h4]
  dsimp only [Option.bind]
  rw [hk]
  rfl)
theorem e_ivs {idx y t' : Nat} {As st' : List Value} (hc : tb_code t pc = some (.invokestatic idx, [(y, t')])) (ht : t' ≠ 9000) (h : st = As.reverse ++ st') (hn : As.length = tb_nar t') (hs : st'.length ≤ 4) (hok : ip_ok t' As = true) : wp G (d + 1) t pc L st σ Q ↔ wp G d t' 0 (ip_en (tb_maxl t') As) [] σ (wk G (d + 1) t pc (pc + 3) L st' Q) := wp_cl hc (by
  unfold ip_act
  dsimp only
  unfold ip_ivs
  dsimp only
  rw [if_neg ht, ip_pk_of h hn hs]
  dsimp only [Option.bind]
  unfold ip_cl
  rw [if_pos hok])
theorem e_ivp {idx y t' a k : Nat} {As st' : List Value} (hc : tb_code t pc = some (.invokespecial idx, [(y, t')])) (ht : t' ≠ 9001) (h : st = (.ref a :: As).reverse ++ st') (hn : (Value.ref a :: As).length = tb_nar t') (hs : st'.length ≤ 4) (hk : ah_cls σ a = some k) (hk2 : k < 1000) (hok : ip_ok t' (.ref a :: As) = true) : wp G (d + 1) t pc L st σ Q ↔ wp G d t' 0 (ip_en (tb_maxl t') (.ref a :: As)) [] σ (wk G (d + 1) t pc (pc + 3) L st' Q) := wp_cl hc (by
  unfold ip_act
  dsimp only
  unfold ip_ivp
  dsimp only
  rw [if_neg ht, ip_pk_of h hn hs]
  dsimp only [Option.bind]
  rw [hk]
  dsimp only
  rw [if_neg ht, if_pos hk2]
  unfold ip_cl
  rw [if_pos hok])
theorem e_ivv {idx n y t' a k : Nat} {vt : List (Nat × Nat)} {As st' : List Value} (hc : tb_code t pc = some (.invokevirtual idx, (n, y) :: vt)) (hk : ah_cls σ a = some k) (hv : vt.lookup k = some t') (ht : t' ≠ 9002 ∧ t' ≠ 9003) (h : st = (.ref a :: As).reverse ++ st') (hn : (Value.ref a :: As).length = n) (hs : st'.length ≤ 4) (hok : ip_ok t' (.ref a :: As) = true) : wp G (d + 1) t pc L st σ Q ↔ wp G d t' 0 (ip_en (tb_maxl t') (.ref a :: As)) [] σ (wk G (d + 1) t pc (pc + 3) L st' Q) := wp_cl hc (by
  unfold ip_act
  dsimp only
  unfold ip_ivv
  dsimp only
  rw [ip_pk_of h hn hs]
  dsimp only [Option.bind]
  rw [hk]
  dsimp only
  rw [hv]
  dsimp only
  rw [if_neg ht.1, if_neg ht.2]
  unfold ip_cl
  rw [if_pos hok])
theorem e_ivi {idx cnt n y t' a k : Nat} {vt : List (Nat × Nat)} {As st' : List Value} (hc : tb_code t pc = some (.invokeinterface idx cnt, (n, y) :: vt)) (hk : ah_cls σ a = some k) (hv : vt.lookup k = some t') (h : st = (.ref a :: As).reverse ++ st') (hn : (Value.ref a :: As).length = n) (hs : st'.length ≤ 4) (hok : ip_ok t' (.ref a :: As) = true) : wp G (d + 1) t pc L st σ Q ↔ wp G d t' 0 (ip_en (tb_maxl t') (.ref a :: As)) [] σ (wk G (d + 1) t pc (pc + 5) L st' Q) := wp_cl hc (by
  unfold ip_act
  dsimp only
  unfold ip_ivi
  dsimp only
  rw [ip_pk_of h hn hs]
  dsimp only [Option.bind]
  rw [hk]
  dsimp only
  rw [hv]
  dsimp only [Option.bind]
  unfold ip_cl
  rw [if_pos hok])
theorem e_clone {idx y a k : Nat} {vt : List (Nat × Nat)} (hc : tb_code t pc = some (.invokevirtual idx, (1, y) :: vt)) (hk : ah_cls σ a = some k) (hv : vt.lookup k = some 9002) (hs : st.length ≤ 4) : wp G d t pc L (.ref a :: st) σ Q ↔ ∃ σ', ah_cln σ a = some σ' ∧ wp G d t (pc + 3) L (.ref σ.2.1 :: st) σ' Q := wp_bd (f := fun σ' => (pc + 3, L, .ref σ.2.1 :: st, σ')) hc (by
  unfold ip_act
  dsimp only
  unfold ip_ivv
  dsimp only
  rw [ip_pk_of (n := 1) (st := .ref a :: st) (As := [.ref a]) (st' := st) rfl rfl hs]
  dsimp only [Option.bind]
  rw [hk]
  dsimp only
  rw [hv]
  rfl)
theorem e_getClass {idx y a k : Nat} {vt : List (Nat × Nat)} (hc : tb_code t pc = some (.invokevirtual idx, (1, y) :: vt)) (hk : ah_cls σ a = some k) (hv : vt.lookup k = some 9003) (hs : st.length ≤ 4) : wp G d t pc L (.ref a :: st) σ Q ↔ wp G d t (pc + 3) L (G 0 :: st) σ Q := wp_nx hc (by
  unfold ip_act
  dsimp only
  unfold ip_ivv
  dsimp only
  rw [ip_pk_of (n := 1) (st := .ref a :: st) (As := [.ref a]) (st' := st) rfl rfl hs]
  dsimp only [Option.bind]
  rw [hk]
  dsimp only
  rw [hv]
  rfl)
theorem rok_i {x : Int32} : ip_rok (some .int) (.int x) = true := by simp [ip_rok, narrow]
theorem rok_z {z : Int} (h : z = 0 ∨ z = 1) : ip_rok (some .boolean) (vI z) = true := by rcases h with rfl | rfl <;> decide
theorem rok_c {z : Int} (h : 0 ≤ z ∧ z < 65536) : ip_rok (some .char) (vI z) = true := by
  have h2 := (pk_charN (q := z.toNat) (by omega)).1
  rw [show nI z.toNat = Int32.ofInt z from by rw [show z = (z.toNat : Int) by omega]; rfl] at h2
  simp [ip_rok, h2]
theorem rok_b {z : Int} (h : -128 ≤ z ∧ z < 128) : ip_rok (some .byte) (vI z) = true := by
  have h2 := pk_nb (Int32.ofInt z)
  rw [i_i8 h.1 h.2] at h2
  simp [ip_rok, h2]
theorem fit_i {x : Int32} : ip_fit .int (.int x) = true := by simp [ip_fit, narrow, fits]
theorem fit_z {z : Int} (h : z = 0 ∨ z = 1) : ip_fit .boolean (vI z) = true := by rcases h with rfl | rfl <;> decide
theorem fit_c {z : Int} (h : 0 ≤ z ∧ z < 65536) : ip_fit .char (vI z) = true := by
  have h2 := pk_charN (q := z.toNat) (by omega)
  rw [show nI z.toNat = Int32.ofInt z from by rw [show z = (z.toNat : Int) by omega]; rfl] at h2
  simp [ip_fit, h2.1, h2.2]
theorem fit_b {z : Int} (h : -128 ≤ z ∧ z < 128) : ip_fit .byte (vI z) = true := by
  have h2 := pk_nb (Int32.ofInt z)
  have h3 := pk_fb (Int32.ofInt z)
  rw [i_i8 h.1 h.2] at h2 h3
  simp [ip_fit, h2, h3]
theorem fit_oR {C : String} {a : Nat} : ip_fit (.object C) (.ref a) = true := by simp [ip_fit, narrow, fits]
theorem fit_oN {C : String} : ip_fit (.object C) .null = true := by simp [ip_fit, narrow, fits]
theorem fit_aR {ty : FieldType} {a : Nat} : ip_fit (.array ty) (.ref a) = true := by simp [ip_fit, narrow, fits]
theorem fit_aN {ty : FieldType} : ip_fit (.array ty) .null = true := by simp [ip_fit, narrow, fits]
theorem ip_ok1 {t : Nat} {As : List Value} (h : ∀ v ∈ As, v.category = 1) : ip_ok t As = true := by
  unfold ip_ok
  rw [Bool.or_eq_true, List.all_eq_true]
  exact Or.inl fun v hv => by simp [h v hv]
theorem ip_en1 {n : Nat} {As : List Value} (h : ∀ v ∈ As, v.category = 1) : ip_en n As = As.map some ++ List.replicate (n - As.length) none := by
  have e : ip_args As = As.map some := by
    induction As with
    | nil => rfl
    | cons a l ih =>
      have h1 := h a List.mem_cons_self
      unfold ip_args
      rw [if_neg (by omega), ih (fun v hv => h v (List.mem_cons_of_mem _ hv))]
      rfl
  unfold ip_en
  rw [e, List.length_map]
theorem e_ireturn {x : Int32} (hc : tb_code t pc = some (.ireturn, aux)) (hr : ip_rok (tb_ret t) (.int x) = true) : wp G d t pc L [.int x] σ Q ↔ Q (.inl (some (.int x))) σ := wp_rt hc (by unfold ip_act; dsimp only; unfold ip_ret1; dsimp only; rw [if_pos hr])
theorem e_lreturn {x : Int64} (hc : tb_code t pc = some (.lreturn, aux)) (hr : ip_rok (tb_ret t) (.long x) = true) : wp G d t pc L [.long x] σ Q ↔ Q (.inl (some (.long x))) σ := wp_rt hc (by unfold ip_act; dsimp only; unfold ip_ret1; dsimp only; rw [if_pos hr])
theorem e_dreturn {x : UInt64} (hc : tb_code t pc = some (.dreturn, aux)) (hr : ip_rok (tb_ret t) (.double x) = true) : wp G d t pc L [.double x] σ Q ↔ Q (.inl (some (.double x))) σ := wp_rt hc (by unfold ip_act; dsimp only; unfold ip_ret1; dsimp only; rw [if_pos hr])
theorem e_areturn {v : Value} (hc : tb_code t pc = some (.areturn, aux)) (hr : ip_rok (tb_ret t) v = true) : wp G d t pc L [v] σ Q ↔ Q (.inl (some v)) σ := wp_rt hc (by unfold ip_act; dsimp only; unfold ip_ret1; dsimp only; rw [if_pos hr])
theorem e_return (hc : tb_code t pc = some (.return_, aux)) (hr : tb_ret t = none) : wp G d t pc L [] σ Q ↔ Q (.inl none) σ := wp_rt hc (by unfold ip_act; dsimp only; unfold ip_ret0; dsimp only; rw [if_pos hr])
theorem e_athrow {a k : Nat} (hc : tb_code t pc = some (.athrow, aux)) (hk : ah_cls σ a = some k) (hx : k = 18 ∨ k = 19 ∨ k = 20) : wp G d t pc L (.ref a :: st) σ Q ↔ wt G d t pc L k σ Q := wp_th hc (by
  unfold ip_act ip_thr
  dsimp only
  rw [hk]
  dsimp only [Option.bind]
  rw [if_pos hx])
end EL
