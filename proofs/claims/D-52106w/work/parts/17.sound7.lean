/-! SOUNDNESS, 7: rooms grow; throws; the callee; the whole -/
def ah_le (σ σ' : AH) : Prop := σ.2.1 ≤ σ'.2.1 ∧ σ.2.2 ≤ σ'.2.2
theorem ah_le.rfl {σ : AH} : ah_le σ σ := ⟨Nat.le_refl _, Nat.le_refl _⟩
theorem ah_le.trans {a b c : AH} (h : ah_le a b) (k : ah_le b c) : ah_le a c := ⟨Nat.le_trans h.1 k.1, Nat.le_trans h.2 k.2⟩
def act_st (act : ip_Act) : AH := match act with
  | .inl q => q.2
  | .inr (.inl q) => q.2
  | .inr (.inr (.inl q)) => q.2.2.2
  | .inr (.inr (.inr q)) => q.2
theorem set_le {σ : AH} {a : Nat} {c : AC} : ah_le σ (ah_set σ a c) := ⟨Nat.le_refl _, Nat.le_refl _⟩
theorem new_le {σ : AH} {n : Nat} {c : AC} : ah_le σ (ah_new σ c n) := ⟨Nat.le_succ _, Nat.le_add_right _ _⟩
theorem put_le {σ σ' : AH} {a k j : Nat} {v : Value} (h : ah_put σ a k j v = some σ') : ah_le σ σ' := by
  obtain ⟨vs, -, -, rfl⟩ := put_inv h
  exact set_le
theorem ast_le {σ σ' : AH} {a j : Nat} {ty : FieldType} {v : Value} (h : ah_ast σ a ty j v = some σ') : ah_le σ σ' := by
  obtain ⟨n, f, -, -, rfl⟩ := ast_inv h
  exact set_le
theorem cpy_le {σ σ' : AH} {a0 sp a1 dp n : Nat} (h : ah_cpy σ a0 sp a1 dp n = some σ') : ah_le σ σ' := by
  unfold ah_cpy at h
  split at h
  · split at h
    · cases h; exact set_le
    · cases h
  · cases h
theorem cln_le {σ σ' : AH} {a : Nat} (h : ah_cln σ a = some σ') : ah_le σ σ' := by
  unfold ah_cln at h
  split at h
  · cases h; exact new_le
  · cases h
theorem newa_le {σ : AH} {ty : FieldType} {dv : Value} {pc : Nat} {L : List (Option Value)} {st : List Value} {act : ip_Act} (h : ip_newa ty dv pc L st σ = some act) : ah_le σ (act_st act) := by
  unfold ip_newa at h
  split at h
  · split at h
    · cases h
    · cases nx_inv h; exact new_le
  · cases h
theorem ald_le {σ : AH} {ty : FieldType} {pc : Nat} {L : List (Option Value)} {st : List Value} {act : ip_Act} (h : ip_ald ty pc L st σ = some act) : ah_le σ (act_st act) := by
  unfold ip_ald at h
  split at h
  · split at h
    · cases h
    · obtain ⟨v, h1, h2⟩ := bd_inv h
      cases nx_inv h2; exact .rfl
  · cases h
theorem astI_le {σ : AH} {ty : FieldType} {pc : Nat} {L : List (Option Value)} {st : List Value} {act : ip_Act} (h : ip_astI ty pc L st σ = some act) : ah_le σ (act_st act) := by
  unfold ip_astI at h
  split at h
  · split at h
    · cases h
    · obtain ⟨v, h1, h2⟩ := bd_inv h
      cases nx_inv h2; exact ast_le h1
  · cases h
theorem glob_le {G : Nat → Value} {aux : List (Nat × Nat)} {σ : AH} {pc : Nat} {L : List (Option Value)} {st : List Value} {act : ip_Act} (h : ip_glob G aux pc L st σ = some act) : ah_le σ (act_st act) := by
  unfold ip_glob at h
  split at h
  · cases nx_inv h; exact .rfl
  · cases nx_inv h; exact .rfl
  · cases h
theorem cl_le {t : Nat} {As : List Value} {σ : AH} {pc : Nat} {L : List (Option Value)} {st : List Value} {act : ip_Act} (h : ip_cl t As pc L st σ = some act) : ah_le σ (act_st act) := by
  unfold ip_cl at h
  split at h
  · cases Option.some.inj h; exact .rfl
  · cases h
theorem ret1_le {ret : Option FieldType} {st : List Value} {σ : AH} {act : ip_Act} (h : ip_ret1 ret st σ = some act) : ah_le σ (act_st act) := by
  unfold ip_ret1 at h
  split at h
  · split at h
    · cases Option.some.inj h; exact .rfl
    · cases h
  · cases h
theorem act_le {G : Nat → Value} {W : List Nat} {ret : Option FieldType} {i : Instr} {aux : List (Nat × Nat)} {pc : Nat} {L : List (Option Value)} {st : List Value} {σ : AH} {act : ip_Act} (ha : ip_act G W ret i aux pc L st σ = some act) : ah_le σ (act_st act) := by
  cases i with
  | iconst n =>
    cases nx_inv ha
    exact .rfl
  | bipush n =>
    cases nx_inv ha
    exact .rfl
  | sipush n =>
    cases nx_inv ha
    exact .rfl
  | lconst n =>
    cases nx_inv ha
    exact .rfl
  | aconst_null =>
    cases nx_inv ha
    exact .rfl
  | dconst n =>
    unfold ip_act at ha
    dsimp only at ha
    split at ha
    · cases nx_inv ha
      exact .rfl
    · cases ha
  | iload_n k =>
    obtain ⟨v, h1, rfl⟩ := ld_inv ha
    exact .rfl
  | iload k =>
    obtain ⟨v, h1, rfl⟩ := ld_inv ha
    exact .rfl
  | lload_n k =>
    obtain ⟨v, h1, rfl⟩ := ld_inv ha
    exact .rfl
  | lload k =>
    obtain ⟨v, h1, rfl⟩ := ld_inv ha
    exact .rfl
  | dload_n k =>
    obtain ⟨v, h1, rfl⟩ := ld_inv ha
    exact .rfl
  | dload k =>
    obtain ⟨v, h1, rfl⟩ := ld_inv ha
    exact .rfl
  | aload_n k =>
    obtain ⟨v, h1, rfl⟩ := ld_inv ha
    exact .rfl
  | aload k =>
    obtain ⟨v, h1, rfl⟩ := ld_inv ha
    exact .rfl
  | istore_n k =>
    obtain ⟨x, r, rfl, h1, rfl⟩ := sI_inv ha
    exact .rfl
  | lstore_n k =>
    obtain ⟨x, r, rfl, h1, rfl⟩ := sJ_inv ha
    exact .rfl
  | astore_n k =>
    rcases sA_inv ha with ⟨x, r, rfl, h1, rfl⟩ | ⟨r, rfl, h1, rfl⟩
    · exact .rfl
    · exact .rfl
  | istore k =>
    obtain ⟨x, r, rfl, h1, rfl⟩ := sI_inv ha
    exact .rfl
  | lstore k =>
    obtain ⟨x, r, rfl, h1, rfl⟩ := sJ_inv ha
    exact .rfl
  | astore k =>
    rcases sA_inv ha with ⟨x, r, rfl, h1, rfl⟩ | ⟨r, rfl, h1, rfl⟩
    · exact .rfl
    · exact .rfl
  | dstore k =>
    obtain ⟨x, r, rfl, h1, rfl⟩ := sD_inv ha
    exact .rfl
  | iinc k n =>
    obtain ⟨x, h1, rfl⟩ := inc_inv ha
    exact .rfl
  | iadd =>
    obtain ⟨y, x, r, rfl, rfl⟩ := b2_inv ha
    exact .rfl
  | isub =>
    obtain ⟨y, x, r, rfl, rfl⟩ := b2_inv ha
    exact .rfl
  | imul =>
    obtain ⟨y, x, r, rfl, rfl⟩ := b2_inv ha
    exact .rfl
  | iand =>
    obtain ⟨y, x, r, rfl, rfl⟩ := b2_inv ha
    exact .rfl
  | ior =>
    obtain ⟨y, x, r, rfl, rfl⟩ := b2_inv ha
    exact .rfl
  | ishl =>
    obtain ⟨y, x, r, rfl, rfl⟩ := b2_inv ha
    exact .rfl
  | ishr =>
    obtain ⟨y, x, r, rfl, rfl⟩ := b2_inv ha
    exact .rfl
  | iushr =>
    obtain ⟨y, x, r, rfl, rfl⟩ := b2_inv ha
    exact .rfl
  | idiv =>
    obtain ⟨y, x, r, rfl, h1, rfl⟩ := b2z_inv ha
    exact .rfl
  | irem =>
    obtain ⟨y, x, r, rfl, h1, rfl⟩ := b2z_inv ha
    exact .rfl
  | ineg =>
    obtain ⟨x, r, rfl, rfl⟩ := u1_inv ha
    exact .rfl
  | i2b =>
    obtain ⟨x, r, rfl, rfl⟩ := u1_inv ha
    exact .rfl
  | i2c =>
    obtain ⟨x, r, rfl, rfl⟩ := u1_inv ha
    exact .rfl
  | i2l =>
    obtain ⟨x, r, rfl, rfl⟩ := u1_inv ha
    exact .rfl
  | i2d =>
    obtain ⟨x, r, rfl, rfl⟩ := u1_inv ha
    exact .rfl
  | l2i =>
    obtain ⟨x, r, rfl, rfl⟩ := j1_inv ha
    exact .rfl
  | ladd =>
    obtain ⟨y, x, r, rfl, rfl⟩ := j2_inv ha
    exact .rfl
  | lmul =>
    obtain ⟨y, x, r, rfl, rfl⟩ := j2_inv ha
    exact .rfl
  | lcmp =>
    obtain ⟨y, x, r, rfl, rfl⟩ := j2_inv ha
    exact .rfl
  | ddiv =>
    obtain ⟨y, x, r, rfl, h1, rfl⟩ := d2_inv ha
    exact .rfl
  | dcmp op =>
    obtain ⟨y, x, r, rfl, h1, rfl⟩ := d2_inv ha
    exact .rfl
  | dup =>
    obtain ⟨v, r, rfl, h1, rfl⟩ := dup_inv ha
    exact .rfl
  | pop =>
    obtain ⟨v, r, rfl, h1, rfl⟩ := pop_inv ha
    exact .rfl
  | dup_x1 =>
    obtain ⟨v, w, r, rfl, h1, rfl⟩ := dupx_inv ha
    exact .rfl
  | dup2 =>
    obtain ⟨v, w, r, rfl, h1, rfl⟩ := dup2_inv ha
    exact .rfl
  | goto off =>
    obtain ⟨tgt, h1, h2⟩ := jb_inv ha
    cases nx_inv h2
    exact .rfl
  | ifCond cd off =>
    obtain ⟨x, r, tgt, rfl, h1, rfl⟩ := br1_inv ha
    exact .rfl
  | if_icmp cd off =>
    obtain ⟨y, x, r, tgt, rfl, h1, rfl⟩ := br2_inv ha
    exact .rfl
  | if_acmp cd off =>
    obtain ⟨y, x, r, tgt, rfl, h0, h1, rfl⟩ := bra_inv ha
    exact .rfl
  | ifnull off =>
    obtain ⟨r, tgt, h1, ⟨rfl, rfl⟩ | ⟨a, rfl, rfl⟩⟩ := brn_inv ha
    · exact .rfl
    · exact .rfl
  | ifnonnull off =>
    obtain ⟨r, tgt, h1, ⟨rfl, rfl⟩ | ⟨a, rfl, rfl⟩⟩ := brn_inv ha
    · exact .rfl
    · exact .rfl
  | tableswitch dflt lo hi offs =>
    change ip_tsw dflt lo hi offs pc L st σ = some act at ha
    unfold ip_tsw at ha
    split at ha
    · split at ha
      · obtain ⟨tgt, h1, h2⟩ := jb_inv ha
        cases nx_inv h2
        exact .rfl
      · obtain ⟨off, h3, h4⟩ := bd_inv ha
        obtain ⟨tgt, h1, h2⟩ := jb_inv h4
        cases nx_inv h2
        exact .rfl
    · cases ha
  | getfield idx =>
    change ip_getf aux pc L st σ = some act at ha
    unfold ip_getf at ha
    split at ha
    · obtain ⟨v, h1, h2⟩ := bd_inv ha
      cases nx_inv h2
      exact .rfl
    · cases ha
  | putfield idx =>
    change ip_putf aux pc L st σ = some act at ha
    unfold ip_putf at ha
    split at ha
    · split at ha
      · obtain ⟨σ1, h1, h2⟩ := bd_inv ha
        cases nx_inv h2
        exact put_le h1
      · cases ha
    · cases ha
  | getstatic idx =>
    exact glob_le ha
  | ldc idx =>
    exact glob_le ha
  | ldc_w idx =>
    exact glob_le ha
  | ldc2_w idx =>
    exact glob_le ha
  | arraylength =>
    change ip_alen pc L st σ = some act at ha
    unfold ip_alen at ha
    split at ha
    · obtain ⟨v, h1, h2⟩ := bd_inv ha
      cases nx_inv h2
      exact .rfl
    · cases ha
  | iaload =>
    exact ald_le ha
  | laload =>
    exact ald_le ha
  | baload =>
    exact ald_le ha
  | aaload =>
    unfold ip_act at ha
    dsimp only at ha
    split at ha
    · exact ald_le ha
    · cases ha
  | iastore =>
    exact astI_le ha
  | bastore =>
    exact astI_le ha
  | lastore =>
    change ip_astJ pc L st σ = some act at ha
    unfold ip_astJ at ha
    split at ha
    · split at ha
      · cases ha
      · obtain ⟨v, h1, h2⟩ := bd_inv ha
        cases nx_inv h2
        exact ast_le h1
    · cases ha
  | aastore =>
    change ip_astA aux pc L st σ = some act at ha
    unfold ip_astA at ha
    split at ha
    · split at ha
      · cases ha
      · obtain ⟨kv, h3, h4⟩ := bd_inv ha
        try dsimp only at h4
        split at h4
        · obtain ⟨σ1, h1, h2⟩ := bd_inv h4
          cases nx_inv h2
          exact ast_le h1
        · cases h4
    · cases ha
  | new idx =>
    change ip_new aux pc L st σ = some act at ha
    unfold ip_new at ha
    split at ha
    · cases nx_inv ha
      exact new_le
    · split at ha
      · cases nx_inv ha
        exact new_le
      · cases ha
    · cases ha
  | newarray at_ =>
    exact newa_le ha
  | anewarray idx =>
    unfold ip_act at ha
    dsimp only at ha
    split at ha
    · exact newa_le ha
    · cases ha
  | multianewarray idx dm =>
    change ip_grid pc L st σ = some act at ha
    unfold ip_grid at ha
    split at ha
    · split at ha
      · cases nx_inv ha
        exact ⟨Nat.le_add_right _ _, Nat.le_add_right _ _⟩
      · cases ha
    · cases ha
  | checkcast idx =>
    change ip_cast aux pc L st σ = some act at ha
    unfold ip_cast at ha
    split at ha
    · cases nx_inv ha
      exact .rfl
    · obtain ⟨k, h1, h2⟩ := bd_inv ha
      try dsimp only at h2
      split at h2
      · cases nx_inv h2
        exact .rfl
      · cases h2
    · cases ha
  | instanceof idx =>
    change ip_inst aux pc L st σ = some act at ha
    unfold ip_inst at ha
    split at ha
    · cases nx_inv ha
      exact .rfl
    · obtain ⟨k, h1, h2⟩ := bd_inv ha
      try dsimp only at h2
      split at h2
      · cases nx_inv h2
        exact .rfl
      · split at h2
        · cases nx_inv h2
          exact .rfl
        · cases h2
    · cases ha
  | invokestatic idx =>
    change ip_ivs aux pc L st σ = some act at ha
    unfold ip_ivs at ha
    split at ha
    · split at ha
      · unfold ip_copy at ha
        split at ha
        · split at ha
          · cases ha
          · obtain ⟨σ1, h1, h2⟩ := bd_inv ha
            cases nx_inv h2
            exact cpy_le h1
        · cases ha
      · obtain ⟨q, h1, h2⟩ := bd_inv ha
        exact cl_le h2
    · cases ha
  | invokespecial idx =>
    change ip_ivp aux pc L st σ = some act at ha
    unfold ip_ivp at ha
    split at ha
    · obtain ⟨q, h1, h2⟩ := bd_inv ha
      try dsimp only at h2
      split at h2
      · obtain ⟨k, h6, h7⟩ := bd_inv h2
        try dsimp only at h7
        split at h7
        · cases nx_inv h7
          exact .rfl
        · split at h7
          · exact cl_le h7
          · cases h7
      · cases h2
    · cases ha
  | invokevirtual idx =>
    change ip_ivv G aux pc L st σ = some act at ha
    unfold ip_ivv at ha
    split at ha
    · obtain ⟨q, h1, h2⟩ := bd_inv ha
      try dsimp only at h2
      split at h2
      · obtain ⟨k, h6, h7⟩ := bd_inv h2
        obtain ⟨t', h8, h10⟩ := bd_inv h7
        try dsimp only at h10
        split at h10
        · obtain ⟨σ1, h11, h12⟩ := bd_inv h10
          cases nx_inv h12
          exact cln_le h11
        · split at h10
          · cases nx_inv h10
            exact .rfl
          · exact cl_le h10
      · cases h2
    · cases ha
  | invokeinterface idx cnt =>
    change ip_ivi aux pc L st σ = some act at ha
    unfold ip_ivi at ha
    split at ha
    · obtain ⟨q, h1, h2⟩ := bd_inv ha
      try dsimp only at h2
      split at h2
      · obtain ⟨k, h6, h7⟩ := bd_inv h2
        obtain ⟨t', h8, h10⟩ := bd_inv h7
        exact cl_le h10
      · cases h2
    · cases ha
  | ireturn =>
    exact ret1_le ha
  | lreturn =>
    exact ret1_le ha
  | dreturn =>
    exact ret1_le ha
  | areturn =>
    exact ret1_le ha
  | return_ =>
    change ip_ret0 ret st σ = some act at ha
    unfold ip_ret0 at ha
    split at ha
    · split at ha
      · cases Option.some.inj ha
        exact .rfl
      · cases ha
    · cases ha
  | athrow =>
    change ip_thr st σ = some act at ha
    unfold ip_thr at ha
    split at ha
    · obtain ⟨k, h1, h2⟩ := bd_inv ha
      try dsimp only at h2
      split at h2
      · cases Option.some.inj h2
        exact .rfl
      · cases h2
    · cases ha
  | _ =>
    exact absurd (show (none : Option ip_Act) = some act from ha) (by simp)
theorem run_le {G : Nat → Value} : ∀ (n d t pc : Nat) (L : List (Option Value)) (st : List Value) (σ : AH) (r : ip_Out) (σf : AH), ip_run G d n t pc L st σ = some (r, σf) → ah_le σ σf := by
  intro n
  induction n with
  | zero => intro d t pc L st σ r σf h; cases h
  | succ n ih =>
    intro d t pc L st σ r σf h
    unfold ip_run at h
    split at h
    · cases h
    split at h
    · cases h
    · rename_i ha
      exact (show ah_le σ _ from act_le ha).trans (ih _ _ _ _ _ _ _ _ h)
    · rename_i ha
      cases Option.some.inj h
      exact act_le ha
    · rename_i ha
      split at h
      · cases Option.some.inj h
        exact act_le ha
      · split at h
        · cases h
        · exact (show ah_le σ _ from act_le ha).trans (ih _ _ _ _ _ _ _ _ h)
    · rename_i ha
      have h0 := act_le ha
      split at h
      · cases h
      split at h
      · cases h
      · rename_i hr
        exact (show ah_le σ _ from h0).trans ((ih _ _ _ _ _ _ _ _ hr).trans (ih _ _ _ _ _ _ _ _ h))
      · rename_i hr
        have h1 := (show ah_le σ _ from h0).trans (ih _ _ _ _ _ _ _ _ hr)
        split at h
        · cases Option.some.inj h
          exact h1
        · split at h
          · cases h
          · exact h1.trans (ih _ _ _ _ _ _ _ _ h)
