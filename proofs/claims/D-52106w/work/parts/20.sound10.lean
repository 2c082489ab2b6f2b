/-! SOUNDNESS, 10: sites that the kit has no row for -/
section S10
variable {own : String} {cc : ByteArray} {pc t idx : Nat}
/-- super.m(), m inherited by the superclass -/
theorem vi_SX {x9 : MethodName} (K : vd_K t) (h0 : mt_h t = []) (hn0 : x9.name ≠ "<init>") (hx : mt_y t = ⟨(mt_y t).cls, x9.name, x9.desc⟩) (h1 : Cond.methodLink own idx x9 ∈ lw_all) (h2 : Cond.sameMethod x9.cls (mt_y t).cls x9.name x9.desc ∈ lw_all) (h3 : Cond.superclass own x9.cls ∈ lw_all) (h4 : Cond.superclass x9.cls (mt_y t).cls ∈ lw_all) (h5 : Cond.instanceMethod (mt_y t) ∈ lw_all) (d : decode cc pc = .ok (.invokespecial idx, 3)) : vd_I own cc pc 3 (mt_n t + 1) t (some fun _ => True) := by
  intro G D H0 p l e R s m args below meth c nL H locs cells slots mc ms rm Pc Qc XC free As rest ls S hK hM hr hf hP hn hv hls hW hcs
  obtain ⟨b, Bs, k, r, rfl, -, hk, hpv⟩ := (hv _ rfl).pre hP
  rw [rv_stack]
  have ht := S.2.2.2.2
  have hat := (hK.1.1 k _ hk).2
  have hc : Cond.code (mt_y t) (mt_c t) (tb_maxl t) (tb_ret t) ∈ mt_ws t := by rw [mt_code h0]; exact List.mem_cons_self
  have hcode := ht _ (K.ws _ hc)
  have hBk : vx_Back l R p e below s args (mt_y t) 3 8 (PreOf R mc ms Pc) (PostOf Qc mc ms free) (vx_Post XC mc ms free) := vx_back (bytes := mt_c t) (maxL := tb_maxl t) (ret := tb_ret t) hM hpv.1 hr.1 hr.2 hf.1 hf.2 (pay_in ht (lw_good K.ws)) hc (fun a' U hW => word_at hW (Or.inl (by first | rfl | simp [Cond.onTables, Cond.keeps, Cond.steady])) (ht _ K.2.2.2.2))
  obtain ⟨hx1, hb, hml, ho, -⟩ := S
  obtain ⟨-, ⟨cellB, hcB, hoB, hclB⟩, hPc⟩ := hpv
  obtain ⟨hfc, kB, hkB, -⟩ := hat
  have hcc : D.1.1 k = cellB.cls := Option.some.inj (hfc.symm.trans hclB)
  rw [hcc] at hkB
  obtain ⟨mk, methM, hnamed, hmethM, hstM, habM⟩ := Cond.instanceMethod_spec (ht _ h5)
  obtain ⟨methM', cM, hmethM', -, -, -, -, -, -, hsigM⟩ := Cond.code_spec hnamed hcode
  cases hmethM.symm.trans hmethM'
  obtain ⟨ps, dk, kp, hps, hdk, hkp, hsuper, -, -, hnid⟩ := Cond.superclass_spec ho (ht _ h3)
  obtain ⟨ps2, dk2, kp2, hps2, hdk2, hkp2, hsuper2, -, -, hnid2⟩ := Cond.superclass_spec hps (ht _ h4)
  have hn9 : s.methodNamed? ⟨(mt_y t).cls, x9.name, x9.desc⟩ = some mk := by rw [← hx]; exact hnamed
  have hpm : ps2 = mk.cls := Option.some.inj (hps2.symm.trans (findClass_of_methodNamed hnamed))
  have hsub : s.vm.isSubclass ps mk.cls = true := by
    rw [← hpm]
    by_cases he : ps = ps2
    · simp [Vm.isSubclass, Vm.isSubclassAux, he]
    · have hsz : 0 < s.vm.classes.size := Nat.lt_of_le_of_lt (Nat.zero_le _) (Array.getElem?_eq_some_iff.mp hkp2).1
      obtain ⟨z, hz⟩ : ∃ z, s.vm.classes.size = z + 1 := ⟨_, (Nat.succ_pred_eq_of_pos hsz).symm⟩
      simp [Vm.isSubclass, Vm.isSubclassAux, hdk2, hsuper2, hz]
  have hlen : Bs.length = methM.sig.parameters.length := by
    have h6 := K.2.2.2.1
    rw [hsigM] at h6
    have h7 : methM.sig.parameters.length = mt_n t := Option.some.inj h6
    have h8 : Bs.length + 1 = mt_n t + 1 := hn
    omega
  intro T hT X
  obtain ⟨vm₁, X₁, hstep₁⟩ := X.invokespecialUp hx1 ho (ht _ h1) (ht _ h2) hn9 hmethM hstM habM hn0 hdk hnid hps hsuper hsub (a := b) (cell := cellB) (by rw [hT]; exact hcB)
    (fun z h => by rw [h] at hoB; cases hoB) hkB (g := F0 m pc ls (Bs.reverse ++ .ref b :: rest)) rfl (argsL := Bs) (rest := rest) hlen rfl (by rw [hb]; exact d)
  rcases hBk m meth c ⟨T.setVm vm₁, locs, cells, slots⟩ (F0 m pc ls rest) (.invokespecial idx) mk (Value.ref b :: Bs).toArray X₁ rfl (hls.trans hml.symm) (by rw [hb]; exact d) (by show 2 * 0 + (rest.map fun v => v.category).sum ≤ 8; omega) (X₁.named hnamed) ⟨hcs.1, hcs.2, hPc (T.setVm vm₁) hT X₁.warmed⟩ with ⟨v, ⟨U', l2, c2, s2⟩, X', ⟨g', mk', t9, L, e1, e2, hq, g1, hL, g2, g3⟩, hsteps⟩ | ⟨q, ⟨U', l2, c2, s2⟩, X', ⟨g', mk', t9, L, E, ce, e1, e2, hq, hce, hcv, hcl, g1, hL, g2, g3⟩, hsteps⟩
  · dsimp only [Pt.U, Pt.locs, Pt.cells, Pt.slots] at X' e1 e2 g1 g2 g3 hsteps
    subst g1; subst g2; subst g3
    exact Or.inl ⟨v, (T.setVm vm₁).calling g' mk' (Value.ref b :: Bs).toArray, t9, U', L, hT, X', hL, e1, e2, hq, fun target h => hstep₁ _ (by rw [doInvoke_state]; exact hsteps.trans h)⟩
  · dsimp only [Pt.U, Pt.locs, Pt.cells, Pt.slots] at X' e1 e2 g1 g2 g3 hsteps hcl
    subst g1; subst g2; subst g3
    exact Or.inr ⟨q, (T.setVm vm₁).calling g' mk' (Value.ref b :: Bs).toArray, t9, U', L, E, ce, hT, X', hL, e1, e2, hq, hce, hcv, vx_cls X₁.warmed hcl, hstep₁ _ (by rw [doInvoke_state]; exact hsteps)⟩
end S10
/-- through an interface that inherits the method -/
theorem vi_FN {own : String} {cc : ByteArray} {pc t idx k cnt : Nat} {C J9 : String} {x9 : MethodName} (K : vd_K t) (h0 : mt_h t = []) (hC : vd_Cn k C) (hx : x9.desc = (mt_y t).desc ∧ x9.cls ≠ J9 ∧ x9.cls ≠ "java/lang/invoke/MethodHandle" ∧ x9.cls ≠ "java/lang/invoke/VarHandle") (h1 : Cond.methodLink own idx x9 ∈ sd_nlm) (f2 : (x9.cls, J9, x9.name, x9.desc) ∈ sd_nli) (h2 : Cond.selects C ⟨J9, x9.name, x9.desc⟩ (mt_y t) ∈ lw_all) (h3 : Cond.instanceMethod (mt_y t) ∈ lw_all) (f1 : Cond.declares ⟨J9, x9.name, x9.desc⟩ ∈ lw_tbl) (f6 : Cond.publicMethod ⟨J9, x9.name, x9.desc⟩ ∈ lw_tbl) (f3 : Cond.publicMethod (mt_y t) ∈ lw_tbl) (f4 : Cond.unhidden C x9.name x9.desc ∈ lw_tbl) (f5 : Cond.castable C x9.cls ∈ lw_tbl) (d : decode cc pc = .ok (.invokeinterface idx cnt, 5)) : vd_I own cc pc 5 (mt_n t + 1) t (some fun q => q = k) := by
  sorry
/-- the words of 'new E()' -/
def vX_ok (own : String) (ic : Nat) (cls : String) (names : List String) : Bool := (vx_at0 own ic cls names).all fun w => decide (w ∈ lw_tbl) && (goodWord w || sd_ride w) && vx_ot w
theorem vX_of {own cls : String} {cc : ByteArray} {pc idx ic k : Nat} {T : u_T} {names : List String} (h1 : sd_cl[k]? = some (cls, T, 0)) (h2 : Bundle.fit cls = true) (h3 : ∀ n ∈ names, Bundle.fit n = true) (h4 : names.length ≤ 5) (h5 : Cond.classLink own idx cls ∈ lw_all) (h6 : Cond.initialized cls ∈ lw_all) (h7 : vX_ok own ic cls names = true) (h8 : vx_ot (Cond.classLink own idx cls) = true ∧ vx_ot (Cond.initialized cls) = true) (d3 : decode cc (pc + 3) = .ok (.dup, 1)) (d4 : decode cc (pc + 4) = .ok (.invokespecial ic, 3)) : vd_X own cc pc idx k := by
  unfold vX_ok at h7
  rw [List.all_eq_true] at h7
  refine ⟨cls, T, names, ic, h1, h2, h3, h4, h5, h6, fun w hw => ?_, fun w hw => ?_, d3, d4⟩
  · have h9 := h7 w hw
    simp only [Bool.and_eq_true, Bool.or_eq_true, decide_eq_true_eq] at h9
    rcases h9.1.2 with h10 | h10
    · exact Or.inl (lw_g h9.1.1 h10)
    · exact Or.inr ⟨h9.1.1, h10⟩
  · rcases List.mem_cons.mp hw with rfl | hw
    · exact h8.1
    · rcases List.mem_cons.mp hw with rfl | hw
      · exact h8.2
      · have h9 := h7 w hw
        simp only [Bool.and_eq_true, Bool.or_eq_true, decide_eq_true_eq] at h9
        exact h9.2
set_option maxRecDepth 100000
theorem vCl {own : String} {idx : Nat} (h : Cond.methodLink own idx ⟨"[B", "clone", "()Ljava/lang/Object;"⟩ ∈ lw_all) : vd_Cl own idx := ⟨h, q542, q543, q544, q545, q546⟩
theorem vGc {own : String} {idx : Nat} (h : Cond.methodLink own idx ⟨"java/lang/Object", "getClass", "()Ljava/lang/Class;"⟩ ∈ lw_all) : vd_Gc own idx := ⟨h, q2396, q2395, q977, q1004⟩
theorem vd_0_ok : vd_0 := ⟨q551, q550, q68, fun k hk => by rcases hk with rfl | rfl | rfl; exact ⟨_, _, _, rfl, Or.inr q2374⟩; exact ⟨_, _, _, rfl, Or.inr q2390⟩; exact ⟨_, _, _, rfl, Or.inr q2379⟩, q101, q102⟩
theorem sd_mj_ok : sd_mj := ⟨rfl, rfl⟩
theorem vX18 : vd_X "KnotLetters" cX1_requireIndex 9 10 18 := vX_of (T := TJ10) (names := ["java/lang/RuntimeException", "java/lang/Exception"]) rfl (by decide +kernel) (by decide +kernel) (by decide) q1480 q62 (by decide +kernel) (by decide +kernel) dX1_requireIndex_12 dX1_requireIndex_13
theorem vX19 : vd_X "KnotLetters" cX1_require 4 1 19 := vX_of (T := TJ17) (names := ["java/lang/RuntimeException", "java/lang/Exception"]) rfl (by decide +kernel) (by decide +kernel) (by decide) q1815 q70 (by decide +kernel) (by decide +kernel) dX1_require_7 dX1_require_8
theorem vX20 : vd_X "KnotLetters" cX1_requireState 4 7 20 := vX_of (T := TJ35) (names := ["java/lang/RuntimeException", "java/lang/Exception"]) rfl (by decide +kernel) (by decide +kernel) (by decide) q1870 q90 (by decide +kernel) (by decide +kernel) dX1_requireState_7 dX1_requireState_8
