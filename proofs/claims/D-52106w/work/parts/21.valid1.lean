/-! THE ROWS THAT HOLD THE TABLE, by program, 1: classes, methods, fields, sites -/
set_option maxRecDepth 100000
theorem vo1 {P : Nat → Nat → Prop} {k j : Nat} (h : P k j) : ∀ k1 j1, [(k, j)] = [(k1, j1)] → P k1 j1 := by
  intro k1 j1 e
  cases e
  exact h
theorem vn0 {P Q : Nat → Prop} {k : Nat} (h : P k) : ∀ k1 b, [(k, 0)] = [(k1, b)] → (b = 0 → P k1) ∧ (b = 1 → Q k1) := by
  intro k1 b e
  cases e
  exact ⟨fun _ => h, (fun h => nomatch h)⟩
theorem vn1 {P Q : Nat → Prop} {k : Nat} (h : Q k) : ∀ k1 b, [(k, 1)] = [(k1, b)] → (b = 0 → P k1) ∧ (b = 1 → Q k1) := by
  intro k1 b e
  cases e
  exact ⟨(fun h => nomatch h), fun _ => h⟩
theorem vs0 {A : Prop} {P : Nat → Prop} {y t n : Nat} (hn : t ≠ n) (h : P t) : ∀ y1 t1, [(y, t)] = [(y1, t1)] → (t1 = n → A) ∧ (t1 ≠ n → P t1) := by
  intro y1 t1 e
  cases e
  exact ⟨fun h1 => absurd h1 hn, fun _ => h⟩
theorem vs1 {A : Prop} {P : Nat → Prop} {y n : Nat} (h : A) : ∀ y1 t1, [(y, n)] = [(y1, t1)] → (t1 = n → A) ∧ (t1 ≠ n → P t1) := by
  intro y1 t1 e
  cases e
  exact ⟨fun _ => h, fun h1 => absurd rfl h1⟩
/-- virtual sites, receiver by receiver -/
theorem vv0 {P : Nat → List (Nat × Nat) → Nat → Nat → Prop} {n y : Nat} {vt : List (Nat × Nat)} (h : ∀ k t, vt.lookup k = some t → P n vt k t) : ∀ n1 y1 vt1, (n, y) :: vt = (n1, y1) :: vt1 → ∀ k t, vt1.lookup k = some t → P n1 vt1 k t := by
  intro n1 y1 vt1 e
  cases e
  exact h
theorem vl0 {P : Nat → Nat → Prop} : ∀ k t, List.lookup k ([] : List (Nat × Nat)) = some t → P k t := fun _ _ h => nomatch h
theorem vl1 {P : Nat → Nat → Prop} {k0 t0 : Nat} {l : List (Nat × Nat)} (h0 : P k0 t0) (h : ∀ k t, l.lookup k = some t → P k t) : ∀ k t, List.lookup k ((k0, t0) :: l) = some t → P k t := by
  intro k t e
  rw [List.lookup_cons] at e
  split at e
  · rename_i hk
    have hk : k = k0 := by simpa using hk
    cases e
    rw [hk]
    exact h0
  · exact h k t e
theorem vc0 {P : Nat → Prop} {b : Nat} : ∀ k, List.contains ([] : List (Nat × Nat)) (k, b) = true → P k := fun _ h => by simp at h
theorem vc1 {P : Nat → Prop} {b k0 b0 : Nat} {l : List (Nat × Nat)} (h0 : b0 = b → P k0) (h : ∀ k, l.contains (k, b) = true → P k) : ∀ k, List.contains ((k0, b0) :: l) (k, b) = true → P k := by
  intro k e
  rw [List.contains_cons, Bool.or_eq_true] at e
  rcases e with e | e
  · have e : k = k0 ∧ b = b0 := by simpa using e
    rw [e.1]
    exact h0 e.2.symm
  · exact h k e
theorem rv_z : ∀ v, ip_rok (some .boolean) v = true → ∃ x, v = .int x := fun v h => by cases v <;> first | exact ⟨_, rfl⟩ | cases h
theorem rv_i : ∀ v, ip_rok (some .int) v = true → ∃ x, v = .int x := fun v h => by cases v <;> first | exact ⟨_, rfl⟩ | cases h
theorem rv_c : ∀ v, ip_rok (some .char) v = true → ∃ x, v = .int x := fun v h => by cases v <;> first | exact ⟨_, rfl⟩ | cases h
theorem rv_b : ∀ v, ip_rok (some .byte) v = true → ∃ x, v = .int x := fun v h => by cases v <;> first | exact ⟨_, rfl⟩ | cases h
theorem vcn0 : vd_Cn 0 "KnotLetters" := ⟨TX1, 11, rfl⟩
theorem vc_0 : vd_C 0 := ⟨"KnotLetters", TX1, 11, rfl, in_X1, by decide +kernel, nmX1, rfl, q96, q47⟩
theorem vcn1 : vd_Cn 1 "KnotLetters$Feel" := ⟨TX2, 5, rfl⟩
theorem vc_1 : vd_C 1 := ⟨"KnotLetters$Feel", TX2, 5, rfl, in_X2, by decide +kernel, nmX2, rfl, q106, q48⟩
theorem vcn2 : vd_Cn 2 "KnotLetters$Letter" := ⟨TX3, 3, rfl⟩
theorem vc_2 : vd_C 2 := ⟨"KnotLetters$Letter", TX3, 3, rfl, in_X3, by decide +kernel, nmX3, rfl, q196, q56⟩
theorem vcn3 : vd_Cn 3 "KnotLetters$Knots" := ⟨TX4, 1, rfl⟩
theorem vc_3 : vd_C 3 := ⟨"KnotLetters$Knots", TX4, 1, rfl, in_X4, by decide +kernel, nmX4, rfl, q202, q57⟩
theorem vcn4 : vd_Cn 4 "KnotLetters$Cord" := ⟨TX6, 3, rfl⟩
theorem vc_4 : vd_C 4 := ⟨"KnotLetters$Cord", TX6, 3, rfl, in_X6, by decide +kernel, nmX6, rfl, q1907, q91⟩
theorem vcn5 : vd_Cn 5 "KnotLetters$Reading" := ⟨TX7, 4, rfl⟩
theorem vc_5 : vd_C 5 := ⟨"KnotLetters$Reading", TX7, 4, rfl, in_X7, by decide +kernel, nmX7, rfl, q1701, q92⟩
theorem vcn6 : vd_Cn 6 "KnotLetters$Choice" := ⟨TX8, 3, rfl⟩
theorem vc_6 : vd_C 6 := ⟨"KnotLetters$Choice", TX8, 3, rfl, in_X8, by decide +kernel, nmX8, rfl, q1725, q93⟩
theorem vcn7 : vd_Cn 7 "KnotLettersModel" := ⟨TX5, 23, rfl⟩
theorem vc_7 : vd_C 7 := ⟨"KnotLettersModel", TX5, 23, rfl, in_X5, by decide +kernel, nmX5, rfl, q2067, q58⟩
theorem vcn8 : vd_Cn 8 "java/lang/StringBuilder" := ⟨TJ4, 4, rfl⟩
theorem vc_8 : vd_C 8 := ⟨"java/lang/StringBuilder", TJ4, 4, rfl, in_J4, by decide +kernel, nmJ4, rfl, q164, q53⟩
theorem vcn9 : vd_Cn 9 "java/lang/String" := ⟨TJ5, 4, rfl⟩
theorem vc_9 : vd_C 9 := ⟨"java/lang/String", TJ5, 4, rfl, in_J5, by decide +kernel, nmJ5, rfl, q435, q54⟩
theorem vcn10 : vd_Cn 10 "java/util/ArrayList" := ⟨TJ2, 3, rfl⟩
theorem vc_10 : vd_C 10 := ⟨"java/util/ArrayList", TJ2, 3, rfl, in_J2, by decide +kernel, nmJ2, rfl, q135, q51⟩
theorem vcn11 : vd_Cn 11 "java/util/ArrayList$Itr" := ⟨TJ31, 4, rfl⟩
theorem vc_11 : vd_C 11 := ⟨"java/util/ArrayList$Itr", TJ31, 4, rfl, in_J31, by decide +kernel, nmJ31, rfl, q1018, q86⟩
theorem vcn12 : vd_Cn 12 "java/util/TreeSet" := ⟨TJ24, 1, rfl⟩
theorem vc_12 : vd_C 12 := ⟨"java/util/TreeSet", TJ24, 1, rfl, in_J24, by decide +kernel, nmJ24, rfl, q377, q78⟩
theorem vcn13 : vd_Cn 13 "java/util/TreeMap" := ⟨TJ26, 9, rfl⟩
theorem vc_13 : vd_C 13 := ⟨"java/util/TreeMap", TJ26, 9, rfl, in_J26, by decide +kernel, nmJ26, rfl, q382, q80⟩
theorem vcn14 : vd_Cn 14 "java/util/TreeMap$Entry" := ⟨TJ29, 6, rfl⟩
theorem vc_14 : vd_C 14 := ⟨"java/util/TreeMap$Entry", TJ29, 6, rfl, in_J29, by decide +kernel, nmJ29, rfl, q893, q84⟩
theorem vcn15 : vd_Cn 15 "java/util/TreeMap$KeySet" := ⟨TJ34, 1, rfl⟩
theorem vc_15 : vd_C 15 := ⟨"java/util/TreeMap$KeySet", TJ34, 1, rfl, in_J34, by decide +kernel, nmJ34, rfl, q1229, q89⟩
theorem vcn16 : vd_Cn 16 "java/util/TreeMap$KeyIterator" := ⟨TJ33, 4, rfl⟩
theorem vc_16 : vd_C 16 := ⟨"java/util/TreeMap$KeyIterator", TJ33, 4, rfl, in_J33, by decide +kernel, nmJ33, rfl, q1184, q88⟩
theorem vcn17 : vd_Cn 17 "java/lang/CharacterDataLatin1" := ⟨sd_T0, 0, rfl⟩
theorem vcn18 : vd_Cn 18 "java/lang/IndexOutOfBoundsException" := ⟨TJ10, 0, rfl⟩
theorem vcn19 : vd_Cn 19 "java/lang/IllegalArgumentException" := ⟨TJ17, 0, rfl⟩
theorem vcn20 : vd_Cn 20 "java/lang/IllegalStateException" := ⟨TJ35, 0, rfl⟩
theorem vx18 : ∀ (k : Nat) (E : String), (k = 18 ∨ k = 19 ∨ k = 20) → k ≠ 18 → vd_Cn k E → (E, "java/lang/IndexOutOfBoundsException") ∈ sd_nc := by
  rintro k E (rfl | rfl | rfl) hk ⟨T, N, h⟩ <;> first | exact absurd rfl hk | (cases h; decide +kernel)
theorem vx19 : ∀ (k : Nat) (E : String), (k = 18 ∨ k = 19 ∨ k = 20) → k ≠ 19 → vd_Cn k E → (E, "java/lang/IllegalArgumentException") ∈ sd_nc := by
  rintro k E (rfl | rfl | rfl) hk ⟨T, N, h⟩ <;> first | exact absurd rfl hk | (cases h; decide +kernel)
theorem vx20 : ∀ (k : Nat) (E : String), (k = 18 ∨ k = 19 ∨ k = 20) → k ≠ 20 → vd_Cn k E → (E, "java/lang/IllegalStateException") ∈ sd_nc := by
  rintro k E (rfl | rfl | rfl) hk ⟨T, N, h⟩ <;> first | exact absurd rfl hk | (cases h; decide +kernel)
theorem vk0 : vd_K 0 := ⟨by decide +kernel, q144, by decide, by decide +kernel, q49⟩
theorem vh0 : vd_H 0 := ⟨[], rfl, rfl, fun _ h => nomatch h⟩
theorem vj0 : vd_K 0 ∧ vd_H 0 ∧ tb_maxl 0 ≤ 40 := ⟨vk0, vh0, by decide⟩
theorem vk1 : vd_K 1 := ⟨by decide +kernel, q1371, by decide, by decide +kernel, q49⟩
theorem vh1 : vd_H 1 := ⟨[], rfl, rfl, fun _ h => nomatch h⟩
theorem vj1 : vd_K 1 ∧ vd_H 1 ∧ tb_maxl 1 ≤ 40 := ⟨vk1, vh1, by decide⟩
theorem vk2 : vd_K 2 := ⟨by decide +kernel, q141, by decide, by decide +kernel, q50⟩
theorem vh2 : vd_H 2 := ⟨[], rfl, rfl, fun _ h => nomatch h⟩
theorem vj2 : vd_K 2 ∧ vd_H 2 ∧ tb_maxl 2 ≤ 40 := ⟨vk2, vh2, by decide⟩
theorem vk3 : vd_K 3 := ⟨by decide +kernel, q328, by decide, by decide +kernel, q64⟩
theorem vh3 : vd_H 3 := ⟨[], rfl, rfl, fun _ h => nomatch h⟩
theorem vj3 : vd_K 3 ∧ vd_H 3 ∧ tb_maxl 3 ≤ 40 := ⟨vk3, vh3, by decide⟩
theorem vk4 : vd_K 4 := ⟨by decide +kernel, q571, by decide, by decide +kernel, q64⟩
theorem vh4 : vd_H 4 := ⟨[], rfl, rfl, fun _ h => nomatch h⟩
theorem vj4 : vd_K 4 ∧ vd_H 4 ∧ tb_maxl 4 ≤ 40 := ⟨vk4, vh4, by decide⟩
theorem vk5 : vd_K 5 := ⟨by decide +kernel, q529, by decide, by decide +kernel, q65⟩
theorem vh5 : vd_H 5 := ⟨[], rfl, rfl, fun _ h => nomatch h⟩
theorem vj5 : vd_K 5 ∧ vd_H 5 ∧ tb_maxl 5 ≤ 40 := ⟨vk5, vh5, by decide⟩
theorem vk6 : vd_K 6 := ⟨by decide +kernel, q729, by decide, by decide +kernel, q65⟩
theorem vh6 : vd_H 6 := ⟨[], rfl, rfl, fun _ h => nomatch h⟩
theorem vj6 : vd_K 6 ∧ vd_H 6 ∧ tb_maxl 6 ≤ 40 := ⟨vk6, vh6, by decide⟩
theorem vk7 : vd_K 7 := ⟨by decide +kernel, q1098, by decide, by decide +kernel, q65⟩
theorem vh7 : vd_H 7 := ⟨[], rfl, rfl, fun _ h => nomatch h⟩
theorem vj7 : vd_K 7 ∧ vd_H 7 ∧ tb_maxl 7 ≤ 40 := ⟨vk7, vh7, by decide⟩
theorem vk8 : vd_K 8 := ⟨by decide +kernel, q320, by decide, by decide +kernel, q66⟩
theorem vh8 : vd_H 8 := ⟨[], rfl, rfl, fun _ h => nomatch h⟩
theorem vj8 : vd_K 8 ∧ vd_H 8 ∧ tb_maxl 8 ≤ 40 := ⟨vk8, vh8, by decide⟩
theorem vk9 : vd_K 9 := ⟨by decide +kernel, q532, by decide, by decide +kernel, q66⟩
theorem vh9 : vd_H 9 := ⟨[], rfl, rfl, fun _ h => nomatch h⟩
theorem vj9 : vd_K 9 ∧ vd_H 9 ∧ tb_maxl 9 ≤ 40 := ⟨vk9, vh9, by decide⟩
theorem vk10 : vd_K 10 := ⟨by decide +kernel, q1783, by decide, by decide +kernel, q66⟩
theorem vh10 : vd_H 10 := ⟨[], rfl, rfl, fun _ h => nomatch h⟩
theorem vj10 : vd_K 10 ∧ vd_H 10 ∧ tb_maxl 10 ≤ 40 := ⟨vk10, vh10, by decide⟩
theorem vk11 : vd_K 11 := ⟨by decide +kernel, q456, by decide, by decide +kernel, q67⟩
theorem vh11 : vd_H 11 := ⟨[], rfl, rfl, fun _ h => nomatch h⟩
theorem vj11 : vd_K 11 ∧ vd_H 11 ∧ tb_maxl 11 ≤ 40 := ⟨vk11, vh11, by decide⟩
theorem vk12 : vd_K 12 := ⟨by decide +kernel, q459, by decide, by decide +kernel, q67⟩
theorem vh12 : vd_H 12 := ⟨[], rfl, rfl, fun _ h => nomatch h⟩
theorem vj12 : vd_K 12 ∧ vd_H 12 ∧ tb_maxl 12 ≤ 40 := ⟨vk12, vh12, by decide⟩
theorem vk13 : vd_K 13 := ⟨by decide +kernel, q462, by decide, by decide +kernel, q67⟩
theorem vh13 : vd_H 13 := ⟨[], rfl, rfl, fun _ h => nomatch h⟩
theorem vj13 : vd_K 13 ∧ vd_H 13 ∧ tb_maxl 13 ≤ 40 := ⟨vk13, vh13, by decide⟩
theorem vk14 : vd_K 14 := ⟨by decide +kernel, q540, by decide, by decide +kernel, q67⟩
theorem vh14 : vd_H 14 := ⟨[], rfl, rfl, fun _ h => nomatch h⟩
theorem vj14 : vd_K 14 ∧ vd_H 14 ∧ tb_maxl 14 ≤ 40 := ⟨vk14, vh14, by decide⟩
theorem vk15 : vd_K 15 := ⟨by decide +kernel, q975, by decide, by decide +kernel, q67⟩
theorem vh15 : vd_H 15 := ⟨[], rfl, rfl, fun _ h => nomatch h⟩
theorem vj15 : vd_K 15 ∧ vd_H 15 ∧ tb_maxl 15 ≤ 40 := ⟨vk15, vh15, by decide⟩
theorem vk16 : vd_K 16 := ⟨by decide +kernel, q1007, by decide, by decide +kernel, q67⟩
theorem vh16 : vd_H 16 := ⟨[], rfl, rfl, fun _ h => nomatch h⟩
theorem vj16 : vd_K 16 ∧ vd_H 16 ∧ tb_maxl 16 ≤ 40 := ⟨vk16, vh16, by decide⟩
theorem vk17 : vd_K 17 := ⟨by decide +kernel, q359, by decide, by decide +kernel, q69⟩
theorem vh17 : vd_H 17 := ⟨[], rfl, rfl, fun _ h => nomatch h⟩
theorem vj17 : vd_K 17 ∧ vd_H 17 ∧ tb_maxl 17 ≤ 40 := ⟨vk17, vh17, by decide⟩
theorem vk18 : vd_K 18 := ⟨by decide +kernel, q722, by decide, by decide +kernel, q69⟩
theorem vh18 : vd_H 18 := ⟨[], rfl, rfl, fun _ h => nomatch h⟩
theorem vj18 : vd_K 18 ∧ vd_H 18 ∧ tb_maxl 18 ≤ 40 := ⟨vk18, vh18, by decide⟩
theorem vk19 : vd_K 19 := ⟨by decide +kernel, q725, by decide, by decide +kernel, q69⟩
theorem vh19 : vd_H 19 := ⟨[], rfl, rfl, fun _ h => nomatch h⟩
theorem vj19 : vd_K 19 ∧ vd_H 19 ∧ tb_maxl 19 ≤ 40 := ⟨vk19, vh19, by decide⟩
theorem vk20 : vd_K 20 := ⟨by decide +kernel, q833, by decide, by decide +kernel, q69⟩
theorem vh20 : vd_H 20 := ⟨[], rfl, rfl, fun _ h => nomatch h⟩
theorem vj20 : vd_K 20 ∧ vd_H 20 ∧ tb_maxl 20 ≤ 40 := ⟨vk20, vh20, by decide⟩
theorem vk21 : vd_K 21 := ⟨by decide +kernel, q1086, by decide, by decide +kernel, q69⟩
theorem vh21 : vd_H 21 := ⟨[], rfl, rfl, fun _ h => nomatch h⟩
theorem vj21 : vd_K 21 ∧ vd_H 21 ∧ tb_maxl 21 ≤ 40 := ⟨vk21, vh21, by decide⟩
theorem vk22 : vd_K 22 := ⟨by decide +kernel, q1112, by decide, by decide +kernel, q69⟩
theorem vh22 : vd_H 22 := ⟨[], rfl, rfl, fun _ h => nomatch h⟩
theorem vj22 : vd_K 22 ∧ vd_H 22 ∧ tb_maxl 22 ≤ 40 := ⟨vk22, vh22, by decide⟩
theorem vk23 : vd_K 23 := ⟨by decide +kernel, q1450, by decide, by decide +kernel, q69⟩
theorem vh23 : vd_H 23 := ⟨[], rfl, rfl, fun _ h => nomatch h⟩
theorem vj23 : vd_K 23 ∧ vd_H 23 ∧ tb_maxl 23 ≤ 40 := ⟨vk23, vh23, by decide⟩
theorem vk24 : vd_K 24 := ⟨by decide +kernel, q1513, by decide, by decide +kernel, q72⟩
theorem vh24 : vd_H 24 := ⟨[], rfl, rfl, fun _ h => nomatch h⟩
theorem vj24 : vd_K 24 ∧ vd_H 24 ∧ tb_maxl 24 ≤ 40 := ⟨vk24, vh24, by decide⟩
theorem vk25 : vd_K 25 := ⟨by decide +kernel, q1516, by decide, by decide +kernel, q72⟩
theorem vh25 : vd_H 25 := ⟨[], rfl, rfl, fun _ h => nomatch h⟩
theorem vj25 : vd_K 25 ∧ vd_H 25 ∧ tb_maxl 25 ≤ 40 := ⟨vk25, vh25, by decide⟩
theorem vk26 : vd_K 26 := ⟨by decide +kernel, q138, by decide, by decide +kernel, q51⟩
theorem vh26 : vd_H 26 := ⟨[], rfl, rfl, fun _ h => nomatch h⟩
theorem vj26 : vd_K 26 ∧ vd_H 26 ∧ tb_maxl 26 ≤ 40 := ⟨vk26, vh26, by decide⟩
theorem vk27 : vd_K 27 := ⟨by decide +kernel, q959, by decide, by decide +kernel, q51⟩
theorem vh27 : vd_H 27 := ⟨[], rfl, rfl, fun _ h => nomatch h⟩
theorem vj27 : vd_K 27 ∧ vd_H 27 ∧ tb_maxl 27 ≤ 40 := ⟨vk27, vh27, by decide⟩
theorem vk28 : vd_K 28 := ⟨by decide +kernel, q963, by decide, by decide +kernel, q51⟩
theorem vh28 : vd_H 28 := ⟨[], rfl, rfl, fun _ h => nomatch h⟩
theorem vj28 : vd_K 28 ∧ vd_H 28 ∧ tb_maxl 28 ≤ 40 := ⟨vk28, vh28, by decide⟩
theorem vk29 : vd_K 29 := ⟨by decide +kernel, q967, by decide, by decide +kernel, q51⟩
theorem vh29 : vd_H 29 := ⟨[], rfl, rfl, fun _ h => nomatch h⟩
theorem vj29 : vd_K 29 ∧ vd_H 29 ∧ tb_maxl 29 ≤ 40 := ⟨vk29, vh29, by decide⟩
theorem vk30 : vd_K 30 := ⟨by decide +kernel, q971, by decide, by decide +kernel, q51⟩
theorem vh30 : vd_H 30 := ⟨[], rfl, rfl, fun _ h => nomatch h⟩
theorem vj30 : vd_K 30 ∧ vd_H 30 ∧ tb_maxl 30 ≤ 40 := ⟨vk30, vh30, by decide⟩
theorem vk31 : vd_K 31 := ⟨by decide +kernel, q1016, by decide, by decide +kernel, q51⟩
theorem vh31 : vd_H 31 := ⟨[], rfl, rfl, fun _ h => nomatch h⟩
theorem vj31 : vd_K 31 ∧ vd_H 31 ∧ tb_maxl 31 ≤ 40 := ⟨vk31, vh31, by decide⟩
theorem vk32 : vd_K 32 := ⟨by decide +kernel, q1259, by decide, by decide +kernel, q51⟩
theorem vh32 : vd_H 32 := ⟨[], rfl, rfl, fun _ h => nomatch h⟩
theorem vj32 : vd_K 32 ∧ vd_H 32 ∧ tb_maxl 32 ≤ 40 := ⟨vk32, vh32, by decide⟩
theorem vk33 : vd_K 33 := ⟨by decide +kernel, q1948, by decide, by decide +kernel, q51⟩
theorem vh33 : vd_H 33 := ⟨[], rfl, rfl, fun _ h => nomatch h⟩
theorem vj33 : vd_K 33 ∧ vd_H 33 ∧ tb_maxl 33 ≤ 40 := ⟨vk33, vh33, by decide⟩
theorem vk34 : vd_K 34 := ⟨by decide +kernel, q1956, by decide, by decide +kernel, q51⟩
theorem vh34 : vd_H 34 := ⟨[], rfl, rfl, fun _ h => nomatch h⟩
theorem vj34 : vd_K 34 ∧ vd_H 34 ∧ tb_maxl 34 ≤ 40 := ⟨vk34, vh34, by decide⟩
theorem vk35 : vd_K 35 := ⟨by decide +kernel, q1563, by decide, by decide +kernel, q74⟩
theorem vh35 : vd_H 35 := ⟨[], rfl, rfl, fun _ h => nomatch h⟩
theorem vj35 : vd_K 35 ∧ vd_H 35 ∧ tb_maxl 35 ≤ 40 := ⟨vk35, vh35, by decide⟩
theorem vk36 : vd_K 36 := ⟨by decide +kernel, q1566, by decide, by decide +kernel, q74⟩
theorem vh36 : vd_H 36 := ⟨[], rfl, rfl, fun _ h => nomatch h⟩
theorem vj36 : vd_K 36 ∧ vd_H 36 ∧ tb_maxl 36 ≤ 40 := ⟨vk36, vh36, by decide⟩
theorem vk37 : vd_K 37 := ⟨by decide +kernel, q1569, by decide, by decide +kernel, q75⟩
theorem vh37 : vd_H 37 := ⟨[], rfl, rfl, fun _ h => nomatch h⟩
theorem vj37 : vd_K 37 ∧ vd_H 37 ∧ tb_maxl 37 ≤ 40 := ⟨vk37, vh37, by decide⟩
theorem vk38 : vd_K 38 := ⟨by decide +kernel, q1577, by decide, by decide +kernel, q76⟩
theorem vh38 : vd_H 38 := ⟨[], rfl, rfl, fun _ h => nomatch h⟩
theorem vj38 : vd_K 38 ∧ vd_H 38 ∧ tb_maxl 38 ≤ 40 := ⟨vk38, vh38, by decide⟩
theorem vk39 : vd_K 39 := ⟨by decide +kernel, q420, by decide, by decide +kernel, q77⟩
theorem vh39 : vd_H 39 := ⟨[], rfl, rfl, fun _ h => nomatch h⟩
theorem vj39 : vd_K 39 ∧ vd_H 39 ∧ tb_maxl 39 ≤ 40 := ⟨vk39, vh39, by decide⟩
theorem vk40 : vd_K 40 := ⟨by decide +kernel, q380, by decide, by decide +kernel, q78⟩
theorem vh40 : vd_H 40 := ⟨[], rfl, rfl, fun _ h => nomatch h⟩
theorem vj40 : vd_K 40 ∧ vd_H 40 ∧ tb_maxl 40 ≤ 40 := ⟨vk40, vh40, by decide⟩
theorem vk41 : vd_K 41 := ⟨by decide +kernel, q417, by decide, by decide +kernel, q78⟩
theorem vh41 : vd_H 41 := ⟨[], rfl, rfl, fun _ h => nomatch h⟩
theorem vj41 : vd_K 41 ∧ vd_H 41 ∧ tb_maxl 41 ≤ 40 := ⟨vk41, vh41, by decide⟩
theorem vk42 : vd_K 42 := ⟨by decide +kernel, q680, by decide, by decide +kernel, q78⟩
theorem vh42 : vd_H 42 := ⟨[], rfl, rfl, fun _ h => nomatch h⟩
theorem vj42 : vd_K 42 ∧ vd_H 42 ∧ tb_maxl 42 ≤ 40 := ⟨vk42, vh42, by decide⟩
theorem vk43 : vd_K 43 := ⟨by decide +kernel, q1131, by decide, by decide +kernel, q78⟩
theorem vh43 : vd_H 43 := ⟨[], rfl, rfl, fun _ h => nomatch h⟩
theorem vj43 : vd_K 43 ∧ vd_H 43 ∧ tb_maxl 43 ≤ 40 := ⟨vk43, vh43, by decide⟩
theorem vk44 : vd_K 44 := ⟨by decide +kernel, q1144, by decide, by decide +kernel, q78⟩
theorem vh44 : vd_H 44 := ⟨[], rfl, rfl, fun _ h => nomatch h⟩
theorem vj44 : vd_K 44 ∧ vd_H 44 ∧ tb_maxl 44 ≤ 40 := ⟨vk44, vh44, by decide⟩
theorem vk45 : vd_K 45 := ⟨by decide +kernel, q1218, by decide, by decide +kernel, q78⟩
theorem vh45 : vd_H 45 := ⟨[], rfl, rfl, fun _ h => nomatch h⟩
theorem vj45 : vd_K 45 ∧ vd_H 45 ∧ tb_maxl 45 ≤ 40 := ⟨vk45, vh45, by decide⟩
theorem vk46 : vd_K 46 := ⟨by decide +kernel, q1249, by decide, by decide +kernel, q78⟩
theorem vh46 : vd_H 46 := ⟨[], rfl, rfl, fun _ h => nomatch h⟩
theorem vj46 : vd_K 46 ∧ vd_H 46 ∧ tb_maxl 46 ≤ 40 := ⟨vk46, vh46, by decide⟩
theorem vk47 : vd_K 47 := ⟨by decide +kernel, q388, by decide, by decide +kernel, q79⟩
theorem vh47 : vd_H 47 := ⟨[], rfl, rfl, fun _ h => nomatch h⟩
theorem vj47 : vd_K 47 ∧ vd_H 47 ∧ tb_maxl 47 ≤ 40 := ⟨vk47, vh47, by decide⟩
theorem vk48 : vd_K 48 := ⟨by decide +kernel, q385, by decide, by decide +kernel, q80⟩
theorem vh48 : vd_H 48 := ⟨[], rfl, rfl, fun _ h => nomatch h⟩
theorem vj48 : vd_K 48 ∧ vd_H 48 ∧ tb_maxl 48 ≤ 40 := ⟨vk48, vh48, by decide⟩
theorem vk49 : vd_K 49 := ⟨by decide +kernel, q691, by decide, by decide +kernel, q80⟩
theorem vh49 : vd_H 49 := ⟨[], rfl, rfl, fun _ h => nomatch h⟩
theorem vj49 : vd_K 49 ∧ vd_H 49 ∧ tb_maxl 49 ≤ 40 := ⟨vk49, vh49, by decide⟩
theorem vk50 : vd_K 50 := ⟨by decide +kernel, q695, by decide, by decide +kernel, q80⟩
theorem vh50 : vd_H 50 := ⟨[], rfl, rfl, fun _ h => nomatch h⟩
theorem vj50 : vd_K 50 ∧ vd_H 50 ∧ tb_maxl 50 ≤ 40 := ⟨vk50, vh50, by decide⟩
theorem vk51 : vd_K 51 := ⟨by decide +kernel, q699, by decide, by decide +kernel, q80⟩
theorem vh51 : vd_H 51 := ⟨[], rfl, rfl, fun _ h => nomatch h⟩
theorem vj51 : vd_K 51 ∧ vd_H 51 ∧ tb_maxl 51 ≤ 40 := ⟨vk51, vh51, by decide⟩
theorem vk52 : vd_K 52 := ⟨by decide +kernel, q703, by decide, by decide +kernel, q80⟩
theorem vh52 : vd_H 52 := ⟨[], rfl, rfl, fun _ h => nomatch h⟩
theorem vj52 : vd_K 52 ∧ vd_H 52 ∧ tb_maxl 52 ≤ 40 := ⟨vk52, vh52, by decide⟩
theorem vk53 : vd_K 53 := ⟨by decide +kernel, q928, by decide, by decide +kernel, q80⟩
theorem vh53 : vd_H 53 := ⟨[], rfl, rfl, fun _ h => nomatch h⟩
theorem vj53 : vd_K 53 ∧ vd_H 53 ∧ tb_maxl 53 ≤ 40 := ⟨vk53, vh53, by decide⟩
theorem vk54 : vd_K 54 := ⟨by decide +kernel, q932, by decide, by decide +kernel, q80⟩
theorem vh54 : vd_H 54 := ⟨[], rfl, rfl, fun _ h => nomatch h⟩
theorem vj54 : vd_K 54 ∧ vd_H 54 ∧ tb_maxl 54 ≤ 40 := ⟨vk54, vh54, by decide⟩
theorem vk55 : vd_K 55 := ⟨by decide +kernel, q935, by decide, by decide +kernel, q80⟩
theorem vh55 : vd_H 55 := ⟨[], rfl, rfl, fun _ h => nomatch h⟩
theorem vj55 : vd_K 55 ∧ vd_H 55 ∧ tb_maxl 55 ≤ 40 := ⟨vk55, vh55, by decide⟩
theorem vk56 : vd_K 56 := ⟨by decide +kernel, q938, by decide, by decide +kernel, q80⟩
theorem vh56 : vd_H 56 := ⟨[], rfl, rfl, fun _ h => nomatch h⟩
theorem vj56 : vd_K 56 ∧ vd_H 56 ∧ tb_maxl 56 ≤ 40 := ⟨vk56, vh56, by decide⟩
theorem vk57 : vd_K 57 := ⟨by decide +kernel, q941, by decide, by decide +kernel, q80⟩
theorem vh57 : vd_H 57 := ⟨[], rfl, rfl, fun _ h => nomatch h⟩
theorem vj57 : vd_K 57 ∧ vd_H 57 ∧ tb_maxl 57 ≤ 40 := ⟨vk57, vh57, by decide⟩
theorem vk58 : vd_K 58 := ⟨by decide +kernel, q944, by decide, by decide +kernel, q80⟩
theorem vh58 : vd_H 58 := ⟨[], rfl, rfl, fun _ h => nomatch h⟩
theorem vj58 : vd_K 58 ∧ vd_H 58 ∧ tb_maxl 58 ≤ 40 := ⟨vk58, vh58, by decide⟩
theorem vk59 : vd_K 59 := ⟨by decide +kernel, q947, by decide, by decide +kernel, q80⟩
theorem vh59 : vd_H 59 := ⟨[], rfl, rfl, fun _ h => nomatch h⟩
theorem vj59 : vd_K 59 ∧ vd_H 59 ∧ tb_maxl 59 ≤ 40 := ⟨vk59, vh59, by decide⟩
theorem vk60 : vd_K 60 := ⟨by decide +kernel, q951, by decide, by decide +kernel, q80⟩
theorem vh60 : vd_H 60 := ⟨[], rfl, rfl, fun _ h => nomatch h⟩
theorem vj60 : vd_K 60 ∧ vd_H 60 ∧ tb_maxl 60 ≤ 40 := ⟨vk60, vh60, by decide⟩
theorem vk61 : vd_K 61 := ⟨by decide +kernel, q955, by decide, by decide +kernel, q80⟩
theorem vh61 : vd_H 61 := ⟨[], rfl, rfl, fun _ h => nomatch h⟩
theorem vj61 : vd_K 61 ∧ vd_H 61 ∧ tb_maxl 61 ≤ 40 := ⟨vk61, vh61, by decide⟩
theorem vk62 : vd_K 62 := ⟨by decide +kernel, q1078, by decide, by decide +kernel, q80⟩
theorem vh62 : vd_H 62 := ⟨[], rfl, rfl, fun _ h => nomatch h⟩
theorem vj62 : vd_K 62 ∧ vd_H 62 ∧ tb_maxl 62 ≤ 40 := ⟨vk62, vh62, by decide⟩
theorem vk63 : vd_K 63 := ⟨by decide +kernel, q1139, by decide, by decide +kernel, q80⟩
theorem vh63 : vd_H 63 := ⟨[], rfl, rfl, fun _ h => nomatch h⟩
theorem vj63 : vd_K 63 ∧ vd_H 63 ∧ tb_maxl 63 ≤ 40 := ⟨vk63, vh63, by decide⟩
theorem vk64 : vd_K 64 := ⟨by decide +kernel, q1152, by decide, by decide +kernel, q80⟩
theorem vh64 : vd_H 64 := ⟨[], rfl, rfl, fun _ h => nomatch h⟩
theorem vj64 : vd_K 64 ∧ vd_H 64 ∧ tb_maxl 64 ≤ 40 := ⟨vk64, vh64, by decide⟩
theorem vk65 : vd_K 65 := ⟨by decide +kernel, q1156, by decide, by decide +kernel, q80⟩
theorem vh65 : vd_H 65 := ⟨[], rfl, rfl, fun _ h => nomatch h⟩
theorem vj65 : vd_K 65 ∧ vd_H 65 ∧ tb_maxl 65 ≤ 40 := ⟨vk65, vh65, by decide⟩
theorem vk66 : vd_K 66 := ⟨by decide +kernel, q1182, by decide, by decide +kernel, q80⟩
theorem vh66 : vd_H 66 := ⟨[], rfl, rfl, fun _ h => nomatch h⟩
theorem vj66 : vd_K 66 ∧ vd_H 66 ∧ tb_maxl 66 ≤ 40 := ⟨vk66, vh66, by decide⟩
theorem vk67 : vd_K 67 := ⟨by decide +kernel, q1188, by decide, by decide +kernel, q80⟩
theorem vh67 : vd_H 67 := ⟨[], rfl, rfl, fun _ h => nomatch h⟩
theorem vj67 : vd_K 67 ∧ vd_H 67 ∧ tb_maxl 67 ≤ 40 := ⟨vk67, vh67, by decide⟩
theorem vk68 : vd_K 68 := ⟨by decide +kernel, q1227, by decide, by decide +kernel, q80⟩
theorem vh68 : vd_H 68 := ⟨[], rfl, rfl, fun _ h => nomatch h⟩
theorem vj68 : vd_K 68 ∧ vd_H 68 ∧ tb_maxl 68 ≤ 40 := ⟨vk68, vh68, by decide⟩
theorem vk69 : vd_K 69 := ⟨by decide +kernel, q896, by decide, by decide +kernel, q84⟩
theorem vh69 : vd_H 69 := ⟨[], rfl, rfl, fun _ h => nomatch h⟩
theorem vj69 : vd_K 69 ∧ vd_H 69 ∧ tb_maxl 69 ≤ 40 := ⟨vk69, vh69, by decide⟩
theorem vk70 : vd_K 70 := ⟨by decide +kernel, q170, by decide, by decide +kernel, q52⟩
theorem vh70 : vd_H 70 := ⟨[], rfl, rfl, fun _ h => nomatch h⟩
theorem vj70 : vd_K 70 ∧ vd_H 70 ∧ tb_maxl 70 ≤ 40 := ⟨vk70, vh70, by decide⟩
theorem vk71 : vd_K 71 := ⟨by decide +kernel, q278, by decide, by decide +kernel, q52⟩
theorem vh71 : vd_H 71 := ⟨[], rfl, rfl, fun _ h => nomatch h⟩
theorem vj71 : vd_K 71 ∧ vd_H 71 ∧ tb_maxl 71 ≤ 40 := ⟨vk71, vh71, by decide⟩
theorem vk72 : vd_K 72 := ⟨by decide +kernel, q317, by decide, by decide +kernel, q52⟩
theorem vh72 : vd_H 72 := ⟨[], rfl, rfl, fun _ h => nomatch h⟩
theorem vj72 : vd_K 72 ∧ vd_H 72 ∧ tb_maxl 72 ≤ 40 := ⟨vk72, vh72, by decide⟩
theorem vk73 : vd_K 73 := ⟨by decide +kernel, q447, by decide, by decide +kernel, q52⟩
theorem vh73 : vd_H 73 := ⟨[], rfl, rfl, fun _ h => nomatch h⟩
theorem vj73 : vd_K 73 ∧ vd_H 73 ∧ tb_maxl 73 ≤ 40 := ⟨vk73, vh73, by decide⟩
theorem vk74 : vd_K 74 := ⟨by decide +kernel, q453, by decide, by decide +kernel, q52⟩
theorem vh74 : vd_H 74 := ⟨[], rfl, rfl, fun _ h => nomatch h⟩
theorem vj74 : vd_K 74 ∧ vd_H 74 ∧ tb_maxl 74 ≤ 40 := ⟨vk74, vh74, by decide⟩
theorem vk75 : vd_K 75 := ⟨by decide +kernel, q522, by decide, by decide +kernel, q52⟩
theorem vh75 : vd_H 75 := ⟨[], rfl, rfl, fun _ h => nomatch h⟩
theorem vj75 : vd_K 75 ∧ vd_H 75 ∧ tb_maxl 75 ≤ 40 := ⟨vk75, vh75, by decide⟩
theorem vk76 : vd_K 76 := ⟨by decide +kernel, q526, by decide, by decide +kernel, q52⟩
theorem vh76 : vd_H 76 := ⟨[], rfl, rfl, fun _ h => nomatch h⟩
theorem vj76 : vd_K 76 ∧ vd_H 76 ∧ tb_maxl 76 ≤ 40 := ⟨vk76, vh76, by decide⟩
theorem vk77 : vd_K 77 := ⟨by decide +kernel, q587, by decide, by decide +kernel, q52⟩
theorem vh77 : vd_H 77 := ⟨[], rfl, rfl, fun _ h => nomatch h⟩
theorem vj77 : vd_K 77 ∧ vd_H 77 ∧ tb_maxl 77 ≤ 40 := ⟨vk77, vh77, by decide⟩
theorem vk78 : vd_K 78 := ⟨by decide +kernel, q599, by decide, by decide +kernel, q52⟩
theorem vh78 : vd_H 78 := ⟨[], rfl, rfl, fun _ h => nomatch h⟩
theorem vj78 : vd_K 78 ∧ vd_H 78 ∧ tb_maxl 78 ≤ 40 := ⟨vk78, vh78, by decide⟩
theorem vk79 : vd_K 79 := ⟨by decide +kernel, q603, by decide, by decide +kernel, q52⟩
theorem vh79 : vd_H 79 := ⟨[], rfl, rfl, fun _ h => nomatch h⟩
theorem vj79 : vd_K 79 ∧ vd_H 79 ∧ tb_maxl 79 ≤ 40 := ⟨vk79, vh79, by decide⟩
theorem vk80 : vd_K 80 := ⟨by decide +kernel, q1441, by decide, by decide +kernel, q52⟩
theorem vh80 : vd_H 80 := ⟨[], rfl, rfl, fun _ h => nomatch h⟩
theorem vj80 : vd_K 80 ∧ vd_H 80 ∧ tb_maxl 80 ≤ 40 := ⟨vk80, vh80, by decide⟩
theorem vk81 : vd_K 81 := ⟨by decide +kernel, q1446, by decide, by decide +kernel, q52⟩
theorem vh81 : vd_H 81 := ⟨[], rfl, rfl, fun _ h => nomatch h⟩
theorem vj81 : vd_K 81 ∧ vd_H 81 ∧ tb_maxl 81 ≤ 40 := ⟨vk81, vh81, by decide⟩
theorem vk82 : vd_K 82 := ⟨by decide +kernel, q1608, by decide, by decide +kernel, q52⟩
theorem vh82 : vd_H 82 := ⟨[], rfl, rfl, fun _ h => nomatch h⟩
theorem vj82 : vd_K 82 ∧ vd_H 82 ∧ tb_maxl 82 ≤ 40 := ⟨vk82, vh82, by decide⟩
theorem vk83 : vd_K 83 := ⟨by decide +kernel, q1622, by decide, by decide +kernel, q52⟩
theorem vh83 : vd_H 83 := ⟨[], rfl, rfl, fun _ h => nomatch h⟩
theorem vj83 : vd_K 83 ∧ vd_H 83 ∧ tb_maxl 83 ≤ 40 := ⟨vk83, vh83, by decide⟩
theorem vk84 : vd_K 84 := ⟨by decide +kernel, q1694, by decide, by decide +kernel, q52⟩
theorem vh84 : vd_H 84 := ⟨[], rfl, rfl, fun _ h => nomatch h⟩
theorem vj84 : vd_K 84 ∧ vd_H 84 ∧ tb_maxl 84 ≤ 40 := ⟨vk84, vh84, by decide⟩
theorem vk85 : vd_K 85 := ⟨by decide +kernel, q1981, by decide, by decide +kernel, q52⟩
theorem vh85 : vd_H 85 := ⟨[], rfl, rfl, fun _ h => nomatch h⟩
theorem vj85 : vd_K 85 ∧ vd_H 85 ∧ tb_maxl 85 ≤ 40 := ⟨vk85, vh85, by decide⟩
theorem vk86 : vd_K 86 := ⟨by decide +kernel, q2009, by decide, by decide +kernel, q52⟩
theorem vh86 : vd_H 86 := ⟨[], rfl, rfl, fun _ h => nomatch h⟩
theorem vj86 : vd_K 86 ∧ vd_H 86 ∧ tb_maxl 86 ≤ 40 := ⟨vk86, vh86, by decide⟩
theorem vk87 : vd_K 87 := ⟨by decide +kernel, q924, by decide, by decide +kernel, q85⟩
theorem vh87 : vd_H 87 := ⟨[], rfl, rfl, fun _ h => nomatch h⟩
theorem vj87 : vd_K 87 ∧ vd_H 87 ∧ tb_maxl 87 ≤ 40 := ⟨vk87, vh87, by decide⟩
theorem vk88 : vd_K 88 := ⟨by decide +kernel, q1951, by decide, by decide +kernel, q85⟩
theorem vh88 : vd_H 88 := ⟨[], rfl, rfl, fun _ h => nomatch h⟩
theorem vj88 : vd_K 88 ∧ vd_H 88 ∧ tb_maxl 88 ≤ 40 := ⟨vk88, vh88, by decide⟩
theorem vk89 : vd_K 89 := ⟨by decide +kernel, q1021, by decide, by decide +kernel, q86⟩
theorem vh89 : vd_H 89 := ⟨[], rfl, rfl, fun _ h => nomatch h⟩
theorem vj89 : vd_K 89 ∧ vd_H 89 ∧ tb_maxl 89 ≤ 40 := ⟨vk89, vh89, by decide⟩
theorem vk90 : vd_K 90 := ⟨by decide +kernel, q1045, by decide, by decide +kernel, q86⟩
theorem vh90 : vd_H 90 := ⟨[], rfl, rfl, fun _ h => nomatch h⟩
theorem vj90 : vd_K 90 ∧ vd_H 90 ∧ tb_maxl 90 ≤ 40 := ⟨vk90, vh90, by decide⟩
theorem vk91 : vd_K 91 := ⟨by decide +kernel, q1060, by decide, by decide +kernel, q86⟩
theorem vh91 : vd_H 91 := ⟨[], rfl, rfl, fun _ h => nomatch h⟩
theorem vj91 : vd_K 91 ∧ vd_H 91 ∧ tb_maxl 91 ≤ 40 := ⟨vk91, vh91, by decide⟩
theorem vk92 : vd_K 92 := ⟨by decide +kernel, q1064, by decide, by decide +kernel, q86⟩
theorem vh92 : vd_H 92 := ⟨[], rfl, rfl, fun _ h => nomatch h⟩
theorem vj92 : vd_K 92 ∧ vd_H 92 ∧ tb_maxl 92 ≤ 40 := ⟨vk92, vh92, by decide⟩
theorem vk93 : vd_K 93 := ⟨by decide +kernel, q1051, by decide, by decide +kernel, q87⟩
theorem vh93 : vd_H 93 := ⟨[], rfl, rfl, fun _ h => nomatch h⟩
theorem vj93 : vd_K 93 ∧ vd_H 93 ∧ tb_maxl 93 ≤ 40 := ⟨vk93, vh93, by decide⟩
theorem vk94 : vd_K 94 := ⟨by decide +kernel, q1075, by decide, by decide +kernel, q87⟩
theorem vh94 : vd_H 94 := ⟨[], rfl, rfl, fun _ h => nomatch h⟩
theorem vj94 : vd_K 94 ∧ vd_H 94 ∧ tb_maxl 94 ≤ 40 := ⟨vk94, vh94, by decide⟩
theorem vk95 : vd_K 95 := ⟨by decide +kernel, q1194, by decide, by decide +kernel, q87⟩
theorem vh95 : vd_H 95 := ⟨[], rfl, rfl, fun _ h => nomatch h⟩
theorem vj95 : vd_K 95 ∧ vd_H 95 ∧ tb_maxl 95 ≤ 40 := ⟨vk95, vh95, by decide⟩
theorem vk96 : vd_K 96 := ⟨by decide +kernel, q1069, by decide, by decide +kernel, q88⟩
theorem vh96 : vd_H 96 := ⟨[], rfl, rfl, fun _ h => nomatch h⟩
theorem vj96 : vd_K 96 ∧ vd_H 96 ∧ tb_maxl 96 ≤ 40 := ⟨vk96, vh96, by decide⟩
theorem vk97 : vd_K 97 := ⟨by decide +kernel, q1191, by decide, by decide +kernel, q88⟩
theorem vh97 : vd_H 97 := ⟨[], rfl, rfl, fun _ h => nomatch h⟩
theorem vj97 : vd_K 97 ∧ vd_H 97 ∧ tb_maxl 97 ≤ 40 := ⟨vk97, vh97, by decide⟩
theorem vk98 : vd_K 98 := ⟨by decide +kernel, q1177, by decide, by decide +kernel, q89⟩
theorem vh98 : vd_H 98 := ⟨[], rfl, rfl, fun _ h => nomatch h⟩
theorem vj98 : vd_K 98 ∧ vd_H 98 ∧ tb_maxl 98 ≤ 40 := ⟨vk98, vh98, by decide⟩
theorem vk99 : vd_K 99 := ⟨by decide +kernel, q1232, by decide, by decide +kernel, q89⟩
theorem vh99 : vd_H 99 := ⟨[], rfl, rfl, fun _ h => nomatch h⟩
theorem vj99 : vd_K 99 ∧ vd_H 99 ∧ tb_maxl 99 ≤ 40 := ⟨vk99, vh99, by decide⟩
theorem vk100 : vd_K 100 := ⟨by decide +kernel, q1265, by decide, by decide +kernel, q89⟩
theorem vh100 : vd_H 100 := ⟨[], rfl, rfl, fun _ h => nomatch h⟩
theorem vj100 : vd_K 100 ∧ vd_H 100 ∧ tb_maxl 100 ≤ 40 := ⟨vk100, vh100, by decide⟩
theorem vk101 : vd_K 101 := ⟨by decide +kernel, q167, by decide, by decide +kernel, q53⟩
theorem vh101 : vd_H 101 := ⟨[], rfl, rfl, fun _ h => nomatch h⟩
theorem vj101 : vd_K 101 ∧ vd_H 101 ∧ tb_maxl 101 ≤ 40 := ⟨vk101, vh101, by decide⟩
theorem vk102 : vd_K 102 := ⟨by decide +kernel, q275, by decide, by decide +kernel, q53⟩
theorem vh102 : vd_H 102 := ⟨[], rfl, rfl, fun _ h => nomatch h⟩
theorem vj102 : vd_K 102 ∧ vd_H 102 ∧ tb_maxl 102 ≤ 40 := ⟨vk102, vh102, by decide⟩
theorem vk103 : vd_K 103 := ⟨by decide +kernel, q314, by decide, by decide +kernel, q53⟩
theorem vh103 : vd_H 103 := ⟨[], rfl, rfl, fun _ h => nomatch h⟩
theorem vj103 : vd_K 103 ∧ vd_H 103 ∧ tb_maxl 103 ≤ 40 := ⟨vk103, vh103, by decide⟩
theorem vk104 : vd_K 104 := ⟨by decide +kernel, q433, by decide, by decide +kernel, q53⟩
theorem vh104 : vd_H 104 := ⟨[], rfl, rfl, fun _ h => nomatch h⟩
theorem vj104 : vd_K 104 ∧ vd_H 104 ∧ tb_maxl 104 ≤ 40 := ⟨vk104, vh104, by decide⟩
theorem vk105 : vd_K 105 := ⟨by decide +kernel, q1438, by decide, by decide +kernel, q53⟩
theorem vh105 : vd_H 105 := ⟨[], rfl, rfl, fun _ h => nomatch h⟩
theorem vj105 : vd_K 105 ∧ vd_H 105 ∧ tb_maxl 105 ≤ 40 := ⟨vk105, vh105, by decide⟩
theorem vk106 : vd_K 106 := ⟨by decide +kernel, q1605, by decide, by decide +kernel, q53⟩
theorem vh106 : vd_H 106 := ⟨[], rfl, rfl, fun _ h => nomatch h⟩
theorem vj106 : vd_K 106 ∧ vd_H 106 ∧ tb_maxl 106 ≤ 40 := ⟨vk106, vh106, by decide⟩
theorem vk107 : vd_K 107 := ⟨by decide +kernel, q584, by decide, by decide +kernel, q53⟩
theorem vh107 : vd_H 107 := ⟨[], rfl, rfl, fun _ h => nomatch h⟩
theorem vj107 : vd_K 107 ∧ vd_H 107 ∧ tb_maxl 107 ≤ 40 := ⟨vk107, vh107, by decide⟩
theorem vk108 : vd_K 108 := ⟨by decide +kernel, q1626, by decide, by decide +kernel, q53⟩
theorem vh108 : vd_H 108 := ⟨[], rfl, rfl, fun _ h => nomatch h⟩
theorem vj108 : vd_K 108 ∧ vd_H 108 ∧ tb_maxl 108 ≤ 40 := ⟨vk108, vh108, by decide⟩
theorem vk109 : vd_K 109 := ⟨by decide +kernel, q1619, by decide, by decide +kernel, q53⟩
theorem vh109 : vd_H 109 := ⟨[], rfl, rfl, fun _ h => nomatch h⟩
theorem vj109 : vd_K 109 ∧ vd_H 109 ∧ tb_maxl 109 ≤ 40 := ⟨vk109, vh109, by decide⟩
theorem vk110 : vd_K 110 := ⟨by decide +kernel, q1691, by decide, by decide +kernel, q53⟩
theorem vh110 : vd_H 110 := ⟨[], rfl, rfl, fun _ h => nomatch h⟩
theorem vj110 : vd_K 110 ∧ vd_H 110 ∧ tb_maxl 110 ≤ 40 := ⟨vk110, vh110, by decide⟩
theorem vk111 : vd_K 111 := ⟨by decide +kernel, q1978, by decide, by decide +kernel, q53⟩
theorem vh111 : vd_H 111 := ⟨[], rfl, rfl, fun _ h => nomatch h⟩
theorem vj111 : vd_K 111 ∧ vd_H 111 ∧ tb_maxl 111 ≤ 40 := ⟨vk111, vh111, by decide⟩
theorem vk112 : vd_K 112 := ⟨by decide +kernel, q2006, by decide, by decide +kernel, q53⟩
theorem vh112 : vd_H 112 := ⟨[], rfl, rfl, fun _ h => nomatch h⟩
theorem vj112 : vd_K 112 ∧ vd_H 112 ∧ tb_maxl 112 ≤ 40 := ⟨vk112, vh112, by decide⟩
theorem vk113 : vd_K 113 := ⟨by decide +kernel, q296, by decide, by decide +kernel, q54⟩
theorem vh113 : vd_H 113 := ⟨[], rfl, rfl, fun _ h => nomatch h⟩
theorem vj113 : vd_K 113 ∧ vd_H 113 ∧ tb_maxl 113 ≤ 40 := ⟨vk113, vh113, by decide⟩
theorem vk114 : vd_K 114 := ⟨by decide +kernel, q300, by decide, by decide +kernel, q54⟩
theorem vh114 : vd_H 114 := ⟨[], rfl, rfl, fun _ h => nomatch h⟩
theorem vj114 : vd_K 114 ∧ vd_H 114 ∧ tb_maxl 114 ≤ 40 := ⟨vk114, vh114, by decide⟩
theorem vk115 : vd_K 115 := ⟨by decide +kernel, q323, by decide, by decide +kernel, q54⟩
theorem vh115 : vd_H 115 := ⟨[], rfl, rfl, fun _ h => nomatch h⟩
theorem vj115 : vd_K 115 ∧ vd_H 115 ∧ tb_maxl 115 ≤ 40 := ⟨vk115, vh115, by decide⟩
theorem vk116 : vd_K 116 := ⟨by decide +kernel, q352, by decide, by decide +kernel, q54⟩
theorem vh116 : vd_H 116 := ⟨[], rfl, rfl, fun _ h => nomatch h⟩
theorem vj116 : vd_K 116 ∧ vd_H 116 ∧ tb_maxl 116 ≤ 40 := ⟨vk116, vh116, by decide⟩
theorem vk117 : vd_K 117 := ⟨by decide +kernel, q356, by decide, by decide +kernel, q54⟩
theorem vh117 : vd_H 117 := ⟨[], rfl, rfl, fun _ h => nomatch h⟩
theorem vj117 : vd_K 117 ∧ vd_H 117 ∧ tb_maxl 117 ≤ 40 := ⟨vk117, vh117, by decide⟩
theorem vk118 : vd_K 118 := ⟨by decide +kernel, q438, by decide, by decide +kernel, q54⟩
theorem vh118 : vd_H 118 := ⟨[], rfl, rfl, fun _ h => nomatch h⟩
theorem vj118 : vd_K 118 ∧ vd_H 118 ∧ tb_maxl 118 ≤ 40 := ⟨vk118, vh118, by decide⟩
theorem vk119 : vd_K 119 := ⟨by decide +kernel, q441, by decide, by decide +kernel, q54⟩
theorem vh119 : vd_H 119 := ⟨[], rfl, rfl, fun _ h => nomatch h⟩
theorem vj119 : vd_K 119 ∧ vd_H 119 ∧ tb_maxl 119 ≤ 40 := ⟨vk119, vh119, by decide⟩
theorem vk120 : vd_K 120 := ⟨by decide +kernel, q568, by decide, by decide +kernel, q54⟩
theorem vh120 : vd_H 120 := ⟨[], rfl, rfl, fun _ h => nomatch h⟩
theorem vj120 : vd_K 120 ∧ vd_H 120 ∧ tb_maxl 120 ≤ 40 := ⟨vk120, vh120, by decide⟩
theorem vk121 : vd_K 121 := ⟨by decide +kernel, q627, by decide, by decide +kernel, q54⟩
theorem vh121 : vd_H 121 := ⟨[], rfl, rfl, fun _ h => nomatch h⟩
theorem vj121 : vd_K 121 ∧ vd_H 121 ∧ tb_maxl 121 ≤ 40 := ⟨vk121, vh121, by decide⟩
theorem vk122 : vd_K 122 := ⟨by decide +kernel, q714, by decide, by decide +kernel, q54⟩
theorem vh122 : vd_H 122 := ⟨[], rfl, rfl, fun _ h => nomatch h⟩
theorem vj122 : vd_K 122 ∧ vd_H 122 ∧ tb_maxl 122 ≤ 40 := ⟨vk122, vh122, by decide⟩
theorem vk123 : vd_K 123 := ⟨by decide +kernel, q719, by decide, by decide +kernel, q54⟩
theorem vh123 : vd_H 123 := ⟨[], rfl, rfl, fun _ h => nomatch h⟩
theorem vj123 : vd_K 123 ∧ vd_H 123 ∧ tb_maxl 123 ≤ 40 := ⟨vk123, vh123, by decide⟩
theorem vk124 : vd_K 124 := ⟨by decide +kernel, q879, by decide, by decide +kernel, q54⟩
theorem vh124 : vd_H 124 := ⟨[], rfl, rfl, fun _ h => nomatch h⟩
theorem vj124 : vd_K 124 ∧ vd_H 124 ∧ tb_maxl 124 ≤ 40 := ⟨vk124, vh124, by decide⟩
theorem vk125 : vd_K 125 := ⟨by decide +kernel, q1083, by decide, by decide +kernel, q54⟩
theorem vh125 : vd_H 125 := ⟨[], rfl, rfl, fun _ h => nomatch h⟩
theorem vj125 : vd_K 125 ∧ vd_H 125 ∧ tb_maxl 125 ≤ 40 := ⟨vk125, vh125, by decide⟩
theorem vk126 : vd_K 126 := ⟨by decide +kernel, q1090, by decide, by decide +kernel, q54⟩
theorem vh126 : vd_H 126 := ⟨[], rfl, rfl, fun _ h => nomatch h⟩
theorem vj126 : vd_K 126 ∧ vd_H 126 ∧ tb_maxl 126 ≤ 40 := ⟨vk126, vh126, by decide⟩
theorem vk127 : vd_K 127 := ⟨by decide +kernel, q1094, by decide, by decide +kernel, q54⟩
theorem vh127 : vd_H 127 := ⟨[], rfl, rfl, fun _ h => nomatch h⟩
theorem vj127 : vd_K 127 ∧ vd_H 127 ∧ tb_maxl 127 ≤ 40 := ⟨vk127, vh127, by decide⟩
theorem vk128 : vd_K 128 := ⟨by decide +kernel, q1104, by decide, by decide +kernel, q54⟩
theorem vh128 : vd_H 128 := ⟨[], rfl, rfl, fun _ h => nomatch h⟩
theorem vj128 : vd_K 128 ∧ vd_H 128 ∧ tb_maxl 128 ≤ 40 := ⟨vk128, vh128, by decide⟩
theorem vk129 : vd_K 129 := ⟨by decide +kernel, q1108, by decide, by decide +kernel, q54⟩
theorem vh129 : vd_H 129 := ⟨[], rfl, rfl, fun _ h => nomatch h⟩
theorem vj129 : vd_K 129 ∧ vd_H 129 ∧ tb_maxl 129 ≤ 40 := ⟨vk129, vh129, by decide⟩
theorem vk130 : vd_K 130 := ⟨by decide +kernel, q1118, by decide, by decide +kernel, q54⟩
theorem vh130 : vd_H 130 := ⟨[], rfl, rfl, fun _ h => nomatch h⟩
theorem vj130 : vd_K 130 ∧ vd_H 130 ∧ tb_maxl 130 ≤ 40 := ⟨vk130, vh130, by decide⟩
theorem vk131 : vd_K 131 := ⟨by decide +kernel, q205, by decide, by decide +kernel, q57⟩
theorem vh131 : vd_H 131 := ⟨[], rfl, rfl, fun _ h => nomatch h⟩
theorem vj131 : vd_K 131 ∧ vd_H 131 ∧ tb_maxl 131 ≤ 40 := ⟨vk131, vh131, by decide⟩
theorem vk132 : vd_K 132 := ⟨by decide +kernel, q271, by decide, by decide +kernel, q57⟩
theorem vh132 : vd_H 132 := ⟨[], rfl, rfl, fun _ h => nomatch h⟩
theorem vj132 : vd_K 132 ∧ vd_H 132 ∧ tb_maxl 132 ≤ 40 := ⟨vk132, vh132, by decide⟩
theorem vk133 : vd_K 133 := ⟨by decide +kernel, q282, by decide, by decide +kernel, q57⟩
theorem vh133 : vd_H 133 := ⟨[], rfl, rfl, fun _ h => nomatch h⟩
theorem vj133 : vd_K 133 ∧ vd_H 133 ∧ tb_maxl 133 ≤ 40 := ⟨vk133, vh133, by decide⟩
theorem vk134 : vd_K 134 := ⟨by decide +kernel, q310, by decide, by decide +kernel, q57⟩
theorem vh134 : vd_H 134 := ⟨[], rfl, rfl, fun _ h => nomatch h⟩
theorem vj134 : vd_K 134 ∧ vd_H 134 ∧ tb_maxl 134 ≤ 40 := ⟨vk134, vh134, by decide⟩
theorem vk135 : vd_K 135 := ⟨by decide +kernel, q429, by decide, by decide +kernel, q57⟩
theorem vh135 : vd_H 135 := ⟨[], rfl, rfl, fun _ h => nomatch h⟩
theorem vj135 : vd_K 135 ∧ vd_H 135 ∧ tb_maxl 135 ≤ 40 := ⟨vk135, vh135, by decide⟩
theorem vk136 : vd_K 136 := ⟨by decide +kernel, q1432, by decide, by decide +kernel, q57⟩
theorem vh136 : vd_H 136 := ⟨[], rfl, rfl, fun _ h => nomatch h⟩
theorem vj136 : vd_K 136 ∧ vd_H 136 ∧ tb_maxl 136 ≤ 40 := ⟨vk136, vh136, by decide⟩
theorem vk137 : vd_K 137 := ⟨by decide +kernel, q1510, by decide, by decide +kernel, q57⟩
theorem vh137 : vd_H 137 := ⟨[], rfl, rfl, fun _ h => nomatch h⟩
theorem vj137 : vd_K 137 ∧ vd_H 137 ∧ tb_maxl 137 ≤ 40 := ⟨vk137, vh137, by decide⟩
theorem vk138 : vd_K 138 := ⟨by decide +kernel, q1588, by decide, by decide +kernel, q57⟩
theorem vh138 : vd_H 138 := ⟨[], rfl, rfl, fun _ h => nomatch h⟩
theorem vj138 : vd_K 138 ∧ vd_H 138 ∧ tb_maxl 138 ≤ 40 := ⟨vk138, vh138, by decide⟩
theorem vk139 : vd_K 139 := ⟨by decide +kernel, q1601, by decide, by decide +kernel, q57⟩
theorem vh139 : vd_H 139 := ⟨[], rfl, rfl, fun _ h => nomatch h⟩
theorem vj139 : vd_K 139 ∧ vd_H 139 ∧ tb_maxl 139 ≤ 40 := ⟨vk139, vh139, by decide⟩
theorem vk140 : vd_K 140 := ⟨by decide +kernel, q1615, by decide, by decide +kernel, q57⟩
theorem vh140 : vd_H 140 := ⟨[], rfl, rfl, fun _ h => nomatch h⟩
theorem vj140 : vd_K 140 ∧ vd_H 140 ∧ tb_maxl 140 ≤ 40 := ⟨vk140, vh140, by decide⟩
theorem vk141 : vd_K 141 := ⟨by decide +kernel, q1778, by decide, by decide +kernel, q57⟩
theorem vh141 : vd_H 141 := ⟨[], rfl, rfl, fun _ h => nomatch h⟩
theorem vj141 : vd_K 141 ∧ vd_H 141 ∧ tb_maxl 141 ≤ 40 := ⟨vk141, vh141, by decide⟩
theorem vk142 : vd_K 142 := ⟨by decide +kernel, q1928, by decide, by decide +kernel, q57⟩
theorem vh142 : vd_H 142 := ⟨[], rfl, rfl, fun _ h => nomatch h⟩
theorem vj142 : vd_K 142 ∧ vd_H 142 ∧ tb_maxl 142 ≤ 40 := ⟨vk142, vh142, by decide⟩
theorem vk143 : vd_K 143 := ⟨by decide +kernel, q1974, by decide, by decide +kernel, q57⟩
theorem vh143 : vd_H 143 := ⟨[], rfl, rfl, fun _ h => nomatch h⟩
theorem vj143 : vd_K 143 ∧ vd_H 143 ∧ tb_maxl 143 ≤ 40 := ⟨vk143, vh143, by decide⟩
theorem vk144 : vd_K 144 := ⟨by decide +kernel, q199, by decide, by decide +kernel, q56⟩
theorem vh144 : vd_H 144 := ⟨[], rfl, rfl, fun _ h => nomatch h⟩
theorem vj144 : vd_K 144 ∧ vd_H 144 ∧ tb_maxl 144 ≤ 40 := ⟨vk144, vh144, by decide⟩
theorem vk145 : vd_K 145 := ⟨by decide +kernel, q267, by decide, by decide +kernel, q56⟩
theorem vh145 : vd_H 145 := ⟨[], rfl, rfl, fun _ h => nomatch h⟩
theorem vj145 : vd_K 145 ∧ vd_H 145 ∧ tb_maxl 145 ≤ 40 := ⟨vk145, vh145, by decide⟩
theorem vk146 : vd_K 146 := ⟨by decide +kernel, q1506, by decide, by decide +kernel, q56⟩
theorem vh146 : vd_H 146 := ⟨[], rfl, rfl, fun _ h => nomatch h⟩
theorem vj146 : vd_K 146 ∧ vd_H 146 ∧ tb_maxl 146 ≤ 40 := ⟨vk146, vh146, by decide⟩
theorem vk147 : vd_K 147 := ⟨by decide +kernel, q1910, by decide, by decide +kernel, q91⟩
theorem vh147 : vd_H 147 := ⟨[], rfl, rfl, fun _ h => nomatch h⟩
theorem vj147 : vd_K 147 ∧ vd_H 147 ∧ tb_maxl 147 ≤ 40 := ⟨vk147, vh147, by decide⟩
theorem vk148 : vd_K 148 := ⟨by decide +kernel, q109, by decide, by decide +kernel, q48⟩
theorem vh148 : vd_H 148 := ⟨[], rfl, rfl, fun _ h => nomatch h⟩
theorem vj148 : vd_K 148 ∧ vd_H 148 ∧ tb_maxl 148 ≤ 40 := ⟨vk148, vh148, by decide⟩
theorem vk149 : vd_K 149 := ⟨by decide +kernel, q1401, by decide, by decide +kernel, q48⟩
theorem vh149 : vd_H 149 := ⟨[], rfl, rfl, fun _ h => nomatch h⟩
theorem vj149 : vd_K 149 ∧ vd_H 149 ∧ tb_maxl 149 ≤ 40 := ⟨vk149, vh149, by decide⟩
theorem vk150 : vd_K 150 := ⟨by decide +kernel, q1406, by decide, by decide +kernel, q48⟩
theorem vh150 : vd_H 150 := ⟨[], rfl, rfl, fun _ h => nomatch h⟩
theorem vj150 : vd_K 150 ∧ vd_H 150 ∧ tb_maxl 150 ≤ 40 := ⟨vk150, vh150, by decide⟩
theorem vk151 : vd_K 151 := ⟨by decide +kernel, q1411, by decide, by decide +kernel, q48⟩
theorem vh151 : vd_H 151 := ⟨[], rfl, rfl, fun _ h => nomatch h⟩
theorem vj151 : vd_K 151 ∧ vd_H 151 ∧ tb_maxl 151 ≤ 40 := ⟨vk151, vh151, by decide⟩
theorem vk152 : vd_K 152 := ⟨by decide +kernel, q1419, by decide, by decide +kernel, q48⟩
theorem vh152 : vd_H 152 := ⟨[], rfl, rfl, fun _ h => nomatch h⟩
theorem vj152 : vd_K 152 ∧ vd_H 152 ∧ tb_maxl 152 ≤ 40 := ⟨vk152, vh152, by decide⟩
theorem vk153 : vd_K 153 := ⟨by decide +kernel, q1423, by decide, by decide +kernel, q48⟩
theorem vh153 : vd_H 153 := ⟨[], rfl, rfl, fun _ h => nomatch h⟩
theorem vj153 : vd_K 153 ∧ vd_H 153 ∧ tb_maxl 153 ≤ 40 := ⟨vk153, vh153, by decide⟩
theorem vk154 : vd_K 154 := ⟨by decide +kernel, q1704, by decide, by decide +kernel, q92⟩
theorem vh154 : vd_H 154 := ⟨[], rfl, rfl, fun _ h => nomatch h⟩
theorem vj154 : vd_K 154 ∧ vd_H 154 ∧ tb_maxl 154 ≤ 40 := ⟨vk154, vh154, by decide⟩
theorem vk155 : vd_K 155 := ⟨by decide +kernel, q1729, by decide, by decide +kernel, q92⟩
theorem vh155 : vd_H 155 := ⟨[], rfl, rfl, fun _ h => nomatch h⟩
theorem vj155 : vd_K 155 ∧ vd_H 155 ∧ tb_maxl 155 ≤ 40 := ⟨vk155, vh155, by decide⟩
theorem vk156 : vd_K 156 := ⟨by decide +kernel, q1758, by decide, by decide +kernel, q92⟩
theorem vh156 : vd_H 156 := ⟨[], rfl, rfl, fun _ h => nomatch h⟩
theorem vj156 : vd_K 156 ∧ vd_H 156 ∧ tb_maxl 156 ≤ 40 := ⟨vk156, vh156, by decide⟩
theorem vk157 : vd_K 157 := ⟨by decide +kernel, q1768, by decide, by decide +kernel, q92⟩
theorem vh157 : vd_H 157 := ⟨[], rfl, rfl, fun _ h => nomatch h⟩
theorem vj157 : vd_K 157 ∧ vd_H 157 ∧ tb_maxl 157 ≤ 40 := ⟨vk157, vh157, by decide⟩
theorem vk158 : vd_K 158 := ⟨by decide +kernel, q1734, by decide, by decide +kernel, q93⟩
theorem vh158 : vd_H 158 := ⟨[], rfl, rfl, fun _ h => nomatch h⟩
theorem vj158 : vd_K 158 ∧ vd_H 158 ∧ tb_maxl 158 ≤ 40 := ⟨vk158, vh158, by decide⟩
theorem vk159 : vd_K 159 := ⟨by decide +kernel, q1750, by decide, by decide +kernel, q93⟩
theorem vh159 : vd_H 159 := ⟨[], rfl, rfl, fun _ h => nomatch h⟩
theorem vj159 : vd_K 159 ∧ vd_H 159 ∧ tb_maxl 159 ≤ 40 := ⟨vk159, vh159, by decide⟩
theorem vk160 : vd_K 160 := ⟨by decide +kernel, q1754, by decide, by decide +kernel, q93⟩
theorem vh160 : vd_H 160 := ⟨[], rfl, rfl, fun _ h => nomatch h⟩
theorem vj160 : vd_K 160 ∧ vd_H 160 ∧ tb_maxl 160 ≤ 40 := ⟨vk160, vh160, by decide⟩
theorem vk161 : vd_K 161 := ⟨by decide +kernel, q1762, by decide, by decide +kernel, q93⟩
theorem vh161 : vd_H 161 := ⟨[], rfl, rfl, fun _ h => nomatch h⟩
theorem vj161 : vd_K 161 ∧ vd_H 161 ∧ tb_maxl 161 ≤ 40 := ⟨vk161, vh161, by decide⟩
theorem vk162 : vd_K 162 := ⟨by decide +kernel, q99, by decide, by decide +kernel, q47⟩
theorem vh162 : vd_H 162 := ⟨[], rfl, rfl, fun _ h => nomatch h⟩
theorem vj162 : vd_K 162 ∧ vd_H 162 ∧ tb_maxl 162 ≤ 40 := ⟨vk162, vh162, by decide⟩
theorem vk163 : vd_K 163 := ⟨by decide +kernel, q263, by decide, by decide +kernel, q47⟩
theorem vh163 : vd_H 163 := ⟨[], rfl, rfl, fun _ h => nomatch h⟩
theorem vj163 : vd_K 163 ∧ vd_H 163 ∧ tb_maxl 163 ≤ 40 := ⟨vk163, vh163, by decide⟩
theorem vk164 : vd_K 164 := ⟨by decide +kernel, q375, by decide, by decide +kernel, q47⟩
theorem vh164 : vd_H 164 := ⟨[], rfl, rfl, fun _ h => nomatch h⟩
theorem vj164 : vd_K 164 ∧ vd_H 164 ∧ tb_maxl 164 ≤ 40 := ⟨vk164, vh164, by decide⟩
theorem vk165 : vd_K 165 := ⟨by decide +kernel, q1163, by decide, by decide +kernel, q47⟩
theorem vh165 : vd_H 165 := ⟨[], rfl, rfl, fun _ h => nomatch h⟩
theorem vj165 : vd_K 165 ∧ vd_H 165 ∧ tb_maxl 165 ≤ 40 := ⟨vk165, vh165, by decide⟩
theorem vk166 : vd_K 166 := ⟨by decide +kernel, q1393, by decide, by decide +kernel, q47⟩
theorem vh166 : vd_H 166 := ⟨[], rfl, rfl, fun _ h => nomatch h⟩
theorem vj166 : vd_K 166 ∧ vd_H 166 ∧ tb_maxl 166 ≤ 40 := ⟨vk166, vh166, by decide⟩
theorem vk167 : vd_K 167 := ⟨by decide +kernel, q1397, by decide, by decide +kernel, q47⟩
theorem vh167 : vd_H 167 := ⟨[], rfl, rfl, fun _ h => nomatch h⟩
theorem vj167 : vd_K 167 ∧ vd_H 167 ∧ tb_maxl 167 ≤ 40 := ⟨vk167, vh167, by decide⟩
theorem vk168 : vd_K 168 := ⟨by decide +kernel, q1429, by decide, by decide +kernel, q47⟩
theorem vh168 : vd_H 168 := ⟨[], rfl, rfl, fun _ h => nomatch h⟩
theorem vj168 : vd_K 168 ∧ vd_H 168 ∧ tb_maxl 168 ≤ 40 := ⟨vk168, vh168, by decide⟩
theorem vk169 : vd_K 169 := ⟨by decide +kernel, q1457, by decide, by decide +kernel, q47⟩
theorem vh169 : vd_H 169 := ⟨[], rfl, rfl, fun _ h => nomatch h⟩
theorem vj169 : vd_K 169 ∧ vd_H 169 ∧ tb_maxl 169 ≤ 40 := ⟨vk169, vh169, by decide⟩
theorem vk170 : vd_K 170 := ⟨by decide +kernel, q1461, by decide, by decide +kernel, q47⟩
theorem vh170 : vd_H 170 := ⟨[], rfl, rfl, fun _ h => nomatch h⟩
theorem vj170 : vd_K 170 ∧ vd_H 170 ∧ tb_maxl 170 ≤ 40 := ⟨vk170, vh170, by decide⟩
theorem vk171 : vd_K 171 := ⟨by decide +kernel, q1466, by decide, by decide +kernel, q47⟩
theorem vh171 : vd_H 171 := ⟨[], rfl, rfl, fun _ h => nomatch h⟩
theorem vj171 : vd_K 171 ∧ vd_H 171 ∧ tb_maxl 171 ≤ 40 := ⟨vk171, vh171, by decide⟩
theorem vk172 : vd_K 172 := ⟨by decide +kernel, q1470, by decide, by decide +kernel, q47⟩
theorem vh172 : vd_H 172 := ⟨[], rfl, rfl, fun _ h => nomatch h⟩
theorem vj172 : vd_K 172 ∧ vd_H 172 ∧ tb_maxl 172 ≤ 40 := ⟨vk172, vh172, by decide⟩
theorem vk173 : vd_K 173 := ⟨by decide +kernel, q1476, by decide, by decide +kernel, q47⟩
theorem vh173 : vd_H 173 := ⟨[], rfl, rfl, fun _ h => nomatch h⟩
theorem vj173 : vd_K 173 ∧ vd_H 173 ∧ tb_maxl 173 ≤ 40 := ⟨vk173, vh173, by decide⟩
theorem vk174 : vd_K 174 := ⟨by decide +kernel, q1479, by decide, by decide +kernel, q47⟩
theorem vh174 : vd_H 174 := ⟨[], rfl, rfl, fun _ h => nomatch h⟩
theorem vj174 : vd_K 174 ∧ vd_H 174 ∧ tb_maxl 174 ≤ 40 := ⟨vk174, vh174, by decide⟩
theorem vk175 : vd_K 175 := ⟨by decide +kernel, q1584, by decide, by decide +kernel, q47⟩
theorem vh175 : vd_H 175 := ⟨[], rfl, rfl, fun _ h => nomatch h⟩
theorem vj175 : vd_K 175 ∧ vd_H 175 ∧ tb_maxl 175 ≤ 40 := ⟨vk175, vh175, by decide⟩
theorem vk176 : vd_K 176 := ⟨by decide +kernel, q1592, by decide, by decide +kernel, q47⟩
theorem vh176 : vd_H 176 := ⟨[], rfl, rfl, fun _ h => nomatch h⟩
theorem vj176 : vd_K 176 ∧ vd_H 176 ∧ tb_maxl 176 ≤ 40 := ⟨vk176, vh176, by decide⟩
theorem vk177 : vd_K 177 := ⟨by decide +kernel, q1596, by decide, by decide +kernel, q47⟩
theorem vh177 : vd_H 177 := ⟨[], rfl, rfl, fun _ h => nomatch h⟩
theorem vj177 : vd_K 177 ∧ vd_H 177 ∧ tb_maxl 177 ≤ 40 := ⟨vk177, vh177, by decide⟩
theorem vk178 : vd_K 178 := ⟨by decide +kernel, q1698, by decide, by decide +kernel, q47⟩
theorem vh178 : vd_H 178 := ⟨[], rfl, rfl, fun _ h => nomatch h⟩
theorem vj178 : vd_K 178 ∧ vd_H 178 ∧ tb_maxl 178 ≤ 40 := ⟨vk178, vh178, by decide⟩
theorem vk179 : vd_K 179 := ⟨by decide +kernel, q1774, by decide, by decide +kernel, q47⟩
theorem vh179 : vd_H 179 := ⟨[], rfl, rfl, fun _ h => nomatch h⟩
theorem vj179 : vd_K 179 ∧ vd_H 179 ∧ tb_maxl 179 ≤ 40 := ⟨vk179, vh179, by decide⟩
theorem vk180 : vd_K 180 := ⟨by decide +kernel, q1811, by decide, by decide +kernel, q47⟩
theorem vh180 : vd_H 180 := ⟨[], rfl, rfl, fun _ h => nomatch h⟩
theorem vj180 : vd_K 180 ∧ vd_H 180 ∧ tb_maxl 180 ≤ 40 := ⟨vk180, vh180, by decide⟩
theorem vk181 : vd_K 181 := ⟨by decide +kernel, q1814, by decide, by decide +kernel, q47⟩
theorem vh181 : vd_H 181 := ⟨[], rfl, rfl, fun _ h => nomatch h⟩
theorem vj181 : vd_K 181 ∧ vd_H 181 ∧ tb_maxl 181 ≤ 40 := ⟨vk181, vh181, by decide⟩
theorem vk182 : vd_K 182 := ⟨by decide +kernel, q1827, by decide, by decide +kernel, q47⟩
theorem vh182 : vd_H 182 := ⟨[], rfl, rfl, fun _ h => nomatch h⟩
theorem vj182 : vd_K 182 ∧ vd_H 182 ∧ tb_maxl 182 ≤ 40 := ⟨vk182, vh182, by decide⟩
theorem vk183 : vd_K 183 := ⟨by decide +kernel, q1834, by decide, by decide +kernel, q47⟩
theorem vh183 : vd_H 183 := ⟨[], rfl, rfl, fun _ h => nomatch h⟩
theorem vj183 : vd_K 183 ∧ vd_H 183 ∧ tb_maxl 183 ≤ 40 := ⟨vk183, vh183, by decide⟩
theorem vk184 : vd_K 184 := ⟨by decide +kernel, q1841, by decide, by decide +kernel, q47⟩
theorem vh184 : vd_H 184 := ⟨[], rfl, rfl, fun _ h => nomatch h⟩
theorem vj184 : vd_K 184 ∧ vd_H 184 ∧ tb_maxl 184 ≤ 40 := ⟨vk184, vh184, by decide⟩
theorem vk185 : vd_K 185 := ⟨by decide +kernel, q1844, by decide, by decide +kernel, q47⟩
theorem vh185 : vd_H 185 := ⟨[], rfl, rfl, fun _ h => nomatch h⟩
theorem vj185 : vd_K 185 ∧ vd_H 185 ∧ tb_maxl 185 ≤ 40 := ⟨vk185, vh185, by decide⟩
theorem vk186 : vd_K 186 := ⟨by decide +kernel, q1851, by decide, by decide +kernel, q47⟩
theorem vh186 : vd_H 186 := ⟨[], rfl, rfl, fun _ h => nomatch h⟩
theorem vj186 : vd_K 186 ∧ vd_H 186 ∧ tb_maxl 186 ≤ 40 := ⟨vk186, vh186, by decide⟩
theorem vk187 : vd_K 187 := ⟨by decide +kernel, q1858, by decide, by decide +kernel, q47⟩
theorem vh187 : vd_H 187 := ⟨[], rfl, rfl, fun _ h => nomatch h⟩
theorem vj187 : vd_K 187 ∧ vd_H 187 ∧ tb_maxl 187 ≤ 40 := ⟨vk187, vh187, by decide⟩
theorem vk188 : vd_K 188 := ⟨by decide +kernel, q1866, by decide, by decide +kernel, q47⟩
theorem vh188 : vd_H 188 := ⟨[], rfl, rfl, fun _ h => nomatch h⟩
theorem vj188 : vd_K 188 ∧ vd_H 188 ∧ tb_maxl 188 ≤ 40 := ⟨vk188, vh188, by decide⟩
theorem vk189 : vd_K 189 := ⟨by decide +kernel, q1869, by decide, by decide +kernel, q47⟩
theorem vh189 : vd_H 189 := ⟨[], rfl, rfl, fun _ h => nomatch h⟩
theorem vj189 : vd_K 189 ∧ vd_H 189 ∧ tb_maxl 189 ≤ 40 := ⟨vk189, vh189, by decide⟩
theorem vk190 : vd_K 190 := ⟨by decide +kernel, q1888, by decide, by decide +kernel, q47⟩
theorem vh190 : vd_H 190 := ⟨[], rfl, rfl, fun _ h => nomatch h⟩
theorem vj190 : vd_K 190 ∧ vd_H 190 ∧ tb_maxl 190 ≤ 40 := ⟨vk190, vh190, by decide⟩
theorem vk191 : vd_K 191 := ⟨by decide +kernel, q1895, by decide, by decide +kernel, q47⟩
theorem vh191 : vd_H 191 := ⟨[], rfl, rfl, fun _ h => nomatch h⟩
theorem vj191 : vd_K 191 ∧ vd_H 191 ∧ tb_maxl 191 ≤ 40 := ⟨vk191, vh191, by decide⟩
theorem vk192 : vd_K 192 := ⟨by decide +kernel, q1902, by decide, by decide +kernel, q47⟩
theorem vh192 : vd_H 192 := ⟨[], rfl, rfl, fun _ h => nomatch h⟩
theorem vj192 : vd_K 192 ∧ vd_H 192 ∧ tb_maxl 192 ≤ 40 := ⟨vk192, vh192, by decide⟩
theorem vk193 : vd_K 193 := ⟨by decide +kernel, q1906, by decide, by decide +kernel, q47⟩
theorem vh193 : vd_H 193 := ⟨[], rfl, rfl, fun _ h => nomatch h⟩
theorem vj193 : vd_K 193 ∧ vd_H 193 ∧ tb_maxl 193 ≤ 40 := ⟨vk193, vh193, by decide⟩
theorem vk194 : vd_K 194 := ⟨by decide +kernel, q1933, by decide, by decide +kernel, q47⟩
theorem vh194 : vd_H 194 := ⟨[], rfl, rfl, fun _ h => nomatch h⟩
theorem vj194 : vd_K 194 ∧ vd_H 194 ∧ tb_maxl 194 ≤ 40 := ⟨vk194, vh194, by decide⟩
theorem vk195 : vd_K 195 := ⟨by decide +kernel, q1940, by decide, by decide +kernel, q47⟩
theorem vh195 : vd_H 195 := ⟨[], rfl, rfl, fun _ h => nomatch h⟩
theorem vj195 : vd_K 195 ∧ vd_H 195 ∧ tb_maxl 195 ≤ 40 := ⟨vk195, vh195, by decide⟩
theorem vk196 : vd_K 196 := ⟨by decide +kernel, q1944, by decide, by decide +kernel, q47⟩
theorem vh196 : vd_H 196 := ⟨[], rfl, rfl, fun _ h => nomatch h⟩
theorem vj196 : vd_K 196 ∧ vd_H 196 ∧ tb_maxl 196 ≤ 40 := ⟨vk196, vh196, by decide⟩
theorem vk197 : vd_K 197 := ⟨by decide +kernel, q1963, by decide, by decide +kernel, q47⟩
theorem vh197 : vd_H 197 := ⟨[], rfl, rfl, fun _ h => nomatch h⟩
theorem vj197 : vd_K 197 ∧ vd_H 197 ∧ tb_maxl 197 ≤ 40 := ⟨vk197, vh197, by decide⟩
theorem vk198 : vd_K 198 := ⟨by decide +kernel, q1970, by decide, by decide +kernel, q47⟩
theorem vh198 : vd_H 198 := ⟨[], rfl, rfl, fun _ h => nomatch h⟩
theorem vj198 : vd_K 198 ∧ vd_H 198 ∧ tb_maxl 198 ≤ 40 := ⟨vk198, vh198, by decide⟩
theorem vk199 : vd_K 199 := ⟨by decide +kernel, q1988, by decide, by decide +kernel, q47⟩
theorem vh199 : vd_H 199 := ⟨[], rfl, rfl, fun _ h => nomatch h⟩
theorem vj199 : vd_K 199 ∧ vd_H 199 ∧ tb_maxl 199 ≤ 40 := ⟨vk199, vh199, by decide⟩
theorem vk200 : vd_K 200 := ⟨by decide +kernel, q1995, by decide, by decide +kernel, q47⟩
theorem vh200 : vd_H 200 := ⟨[], rfl, rfl, fun _ h => nomatch h⟩
theorem vj200 : vd_K 200 ∧ vd_H 200 ∧ tb_maxl 200 ≤ 40 := ⟨vk200, vh200, by decide⟩
theorem vk201 : vd_K 201 := ⟨by decide +kernel, q2002, by decide, by decide +kernel, q47⟩
theorem vh201 : vd_H 201 := ⟨[], rfl, rfl, fun _ h => nomatch h⟩
theorem vj201 : vd_K 201 ∧ vd_H 201 ∧ tb_maxl 201 ≤ 40 := ⟨vk201, vh201, by decide⟩
theorem vk202 : vd_K 202 := ⟨by decide +kernel, q2061, by decide, by decide +kernel, q47⟩
theorem vh202 : vd_H 202 := ⟨[], rfl, rfl, fun _ h => nomatch h⟩
theorem vj202 : vd_K 202 ∧ vd_H 202 ∧ tb_maxl 202 ≤ 40 := ⟨vk202, vh202, by decide⟩
theorem vk203 : vd_K 203 := ⟨by decide +kernel, q2070, by decide, by decide +kernel, q58⟩
theorem vh203 : vd_H 203 := ⟨[], rfl, rfl, fun _ h => nomatch h⟩
theorem vj203 : vd_K 203 ∧ vd_H 203 ∧ tb_maxl 203 ≤ 40 := ⟨vk203, vh203, by decide⟩
theorem vk204 : vd_K 204 := ⟨by decide +kernel, q2145, by decide, by decide +kernel, q58⟩
theorem vh204 : vd_H 204 := ⟨[], rfl, rfl, fun _ h => nomatch h⟩
theorem vj204 : vd_K 204 ∧ vd_H 204 ∧ tb_maxl 204 ≤ 40 := ⟨vk204, vh204, by decide⟩
theorem vk205 : vd_K 205 := ⟨by decide +kernel, q2149, by decide, by decide +kernel, q58⟩
theorem vh205 : vd_H 205 := ⟨[], rfl, rfl, fun _ h => nomatch h⟩
theorem vj205 : vd_K 205 ∧ vd_H 205 ∧ tb_maxl 205 ≤ 40 := ⟨vk205, vh205, by decide⟩
theorem vk206 : vd_K 206 := ⟨by decide +kernel, q2152, by decide, by decide +kernel, q58⟩
theorem vh206 : vd_H 206 := ⟨[], rfl, rfl, fun _ h => nomatch h⟩
theorem vj206 : vd_K 206 ∧ vd_H 206 ∧ tb_maxl 206 ≤ 40 := ⟨vk206, vh206, by decide⟩
theorem vk207 : vd_K 207 := ⟨by decide +kernel, q2156, by decide, by decide +kernel, q58⟩
theorem vh207 : vd_H 207 := ⟨[], rfl, rfl, fun _ h => nomatch h⟩
theorem vj207 : vd_K 207 ∧ vd_H 207 ∧ tb_maxl 207 ≤ 40 := ⟨vk207, vh207, by decide⟩
theorem vk208 : vd_K 208 := ⟨by decide +kernel, q2159, by decide, by decide +kernel, q58⟩
theorem vh208 : vd_H 208 := ⟨[], rfl, rfl, fun _ h => nomatch h⟩
theorem vj208 : vd_K 208 ∧ vd_H 208 ∧ tb_maxl 208 ≤ 40 := ⟨vk208, vh208, by decide⟩
theorem vk209 : vd_K 209 := ⟨by decide +kernel, q2163, by decide, by decide +kernel, q58⟩
theorem vh209 : vd_H 209 := ⟨[], rfl, rfl, fun _ h => nomatch h⟩
theorem vj209 : vd_K 209 ∧ vd_H 209 ∧ tb_maxl 209 ≤ 40 := ⟨vk209, vh209, by decide⟩
theorem vk210 : vd_K 210 := ⟨by decide +kernel, q2167, by decide, by decide +kernel, q58⟩
theorem vh210 : vd_H 210 := ⟨[], rfl, rfl, fun _ h => nomatch h⟩
theorem vj210 : vd_K 210 ∧ vd_H 210 ∧ tb_maxl 210 ≤ 40 := ⟨vk210, vh210, by decide⟩
theorem vk211 : vd_K 211 := ⟨by decide +kernel, q2170, by decide, by decide +kernel, q58⟩
theorem vh211 : vd_H 211 := ⟨[], rfl, rfl, fun _ h => nomatch h⟩
theorem vj211 : vd_K 211 ∧ vd_H 211 ∧ tb_maxl 211 ≤ 40 := ⟨vk211, vh211, by decide⟩
theorem vk212 : vd_K 212 := ⟨by decide +kernel, q2174, by decide, by decide +kernel, q58⟩
theorem vh212 : vd_H 212 := ⟨[], rfl, rfl, fun _ h => nomatch h⟩
theorem vj212 : vd_K 212 ∧ vd_H 212 ∧ tb_maxl 212 ≤ 40 := ⟨vk212, vh212, by decide⟩
theorem vk213 : vd_K 213 := ⟨by decide +kernel, q2177, by decide, by decide +kernel, q58⟩
theorem vh213 : vd_H 213 := ⟨[], rfl, rfl, fun _ h => nomatch h⟩
theorem vj213 : vd_K 213 ∧ vd_H 213 ∧ tb_maxl 213 ≤ 40 := ⟨vk213, vh213, by decide⟩
theorem vk214 : vd_K 214 := ⟨by decide +kernel, q2181, by decide, by decide +kernel, q58⟩
theorem vh214 : vd_H 214 := ⟨[], rfl, rfl, fun _ h => nomatch h⟩
theorem vj214 : vd_K 214 ∧ vd_H 214 ∧ tb_maxl 214 ≤ 40 := ⟨vk214, vh214, by decide⟩
theorem vk215 : vd_K 215 := ⟨by decide +kernel, q2185, by decide, by decide +kernel, q58⟩
theorem vh215 : vd_H 215 := ⟨[], rfl, rfl, fun _ h => nomatch h⟩
theorem vj215 : vd_K 215 ∧ vd_H 215 ∧ tb_maxl 215 ≤ 40 := ⟨vk215, vh215, by decide⟩
theorem vk216 : vd_K 216 := ⟨by decide +kernel, q2189, by decide, by decide +kernel, q58⟩
theorem vh216 : vd_H 216 := ⟨[], rfl, rfl, fun _ h => nomatch h⟩
theorem vj216 : vd_K 216 ∧ vd_H 216 ∧ tb_maxl 216 ≤ 40 := ⟨vk216, vh216, by decide⟩
theorem vk217 : vd_K 217 := ⟨by decide +kernel, q2194, by decide, by decide +kernel, q58⟩
theorem vh217 : vd_H 217 := ⟨[], rfl, rfl, fun _ h => nomatch h⟩
theorem vj217 : vd_K 217 ∧ vd_H 217 ∧ tb_maxl 217 ≤ 40 := ⟨vk217, vh217, by decide⟩
theorem vk218 : vd_K 218 := ⟨by decide +kernel, q2198, by decide, by decide +kernel, q58⟩
theorem vh218 : vd_H 218 := ⟨[], rfl, rfl, fun _ h => nomatch h⟩
theorem vj218 : vd_K 218 ∧ vd_H 218 ∧ tb_maxl 218 ≤ 40 := ⟨vk218, vh218, by decide⟩
theorem vk219 : vd_K 219 := ⟨by decide +kernel, q2203, by decide, by decide +kernel, q58⟩
theorem vh219 : vd_H 219 := ⟨[], rfl, rfl, fun _ h => nomatch h⟩
theorem vj219 : vd_K 219 ∧ vd_H 219 ∧ tb_maxl 219 ≤ 40 := ⟨vk219, vh219, by decide⟩
theorem vk220 : vd_K 220 := ⟨by decide +kernel, q2207, by decide, by decide +kernel, q58⟩
theorem vh220 : vd_H 220 := ⟨[], rfl, rfl, fun _ h => nomatch h⟩
theorem vj220 : vd_K 220 ∧ vd_H 220 ∧ tb_maxl 220 ≤ 40 := ⟨vk220, vh220, by decide⟩
theorem vk221 : vd_K 221 := ⟨by decide +kernel, q2211, by decide, by decide +kernel, q58⟩
theorem vh221 : vd_H 221 := ⟨[], rfl, rfl, fun _ h => nomatch h⟩
theorem vj221 : vd_K 221 ∧ vd_H 221 ∧ tb_maxl 221 ≤ 40 := ⟨vk221, vh221, by decide⟩
theorem vk222 : vd_K 222 := ⟨by decide +kernel, q2215, by decide, by decide +kernel, q58⟩
theorem vh222 : vd_H 222 := ⟨[], rfl, rfl, fun _ h => nomatch h⟩
theorem vj222 : vd_K 222 ∧ vd_H 222 ∧ tb_maxl 222 ≤ 40 := ⟨vk222, vh222, by decide⟩
theorem vk223 : vd_K 223 := ⟨by decide +kernel, q2219, by decide, by decide +kernel, q58⟩
theorem vh223 : vd_H 223 := ⟨[], rfl, rfl, fun _ h => nomatch h⟩
theorem vj223 : vd_K 223 ∧ vd_H 223 ∧ tb_maxl 223 ≤ 40 := ⟨vk223, vh223, by decide⟩
theorem vk224 : vd_K 224 := ⟨by decide +kernel, q2223, by decide, by decide +kernel, q58⟩
theorem vh224 : vd_H 224 := ⟨[], rfl, rfl, fun _ h => nomatch h⟩
theorem vj224 : vd_K 224 ∧ vd_H 224 ∧ tb_maxl 224 ≤ 40 := ⟨vk224, vh224, by decide⟩
theorem vk225 : vd_K 225 := ⟨by decide +kernel, q2227, by decide, by decide +kernel, q58⟩
theorem vh225 : vd_H 225 := ⟨[], rfl, rfl, fun _ h => nomatch h⟩
theorem vj225 : vd_K 225 ∧ vd_H 225 ∧ tb_maxl 225 ≤ 40 := ⟨vk225, vh225, by decide⟩
theorem vk226 : vd_K 226 := ⟨by decide +kernel, q2231, by decide, by decide +kernel, q58⟩
theorem vh226 : vd_H 226 := ⟨[], rfl, rfl, fun _ h => nomatch h⟩
theorem vj226 : vd_K 226 ∧ vd_H 226 ∧ tb_maxl 226 ≤ 40 := ⟨vk226, vh226, by decide⟩
theorem vk227 : vd_K 227 := ⟨by decide +kernel, q2235, by decide, by decide +kernel, q58⟩
theorem vh227 : vd_H 227 := ⟨[], rfl, rfl, fun _ h => nomatch h⟩
theorem vj227 : vd_K 227 ∧ vd_H 227 ∧ tb_maxl 227 ≤ 40 := ⟨vk227, vh227, by decide⟩
theorem vk228 : vd_K 228 := ⟨by decide +kernel, q2239, by decide, by decide +kernel, q58⟩
theorem vh228 : vd_H 228 := ⟨[], rfl, rfl, fun _ h => nomatch h⟩
theorem vj228 : vd_K 228 ∧ vd_H 228 ∧ tb_maxl 228 ≤ 40 := ⟨vk228, vh228, by decide⟩
theorem vk229 : vd_K 229 := ⟨by decide +kernel, q2243, by decide, by decide +kernel, q58⟩
theorem vh229 : vd_H 229 := ⟨[], rfl, rfl, fun _ h => nomatch h⟩
theorem vj229 : vd_K 229 ∧ vd_H 229 ∧ tb_maxl 229 ≤ 40 := ⟨vk229, vh229, by decide⟩
theorem vk230 : vd_K 230 := ⟨by decide +kernel, q2247, by decide, by decide +kernel, q58⟩
theorem vh230 : vd_H 230 := ⟨[], rfl, rfl, fun _ h => nomatch h⟩
theorem vj230 : vd_K 230 ∧ vd_H 230 ∧ tb_maxl 230 ≤ 40 := ⟨vk230, vh230, by decide⟩
theorem vk231 : vd_K 231 := ⟨by decide +kernel, q2251, by decide, by decide +kernel, q58⟩
theorem vh231 : vd_H 231 := ⟨[], rfl, rfl, fun _ h => nomatch h⟩
theorem vj231 : vd_K 231 ∧ vd_H 231 ∧ tb_maxl 231 ≤ 40 := ⟨vk231, vh231, by decide⟩
theorem vk232 : vd_K 232 := ⟨by decide +kernel, q2255, by decide, by decide +kernel, q58⟩
theorem vh232 : vd_H 232 := ⟨[], rfl, rfl, fun _ h => nomatch h⟩
theorem vj232 : vd_K 232 ∧ vd_H 232 ∧ tb_maxl 232 ≤ 40 := ⟨vk232, vh232, by decide⟩
theorem vk233 : vd_K 233 := ⟨by decide +kernel, q2259, by decide, by decide +kernel, q58⟩
theorem vh233 : vd_H 233 := ⟨[], rfl, rfl, fun _ h => nomatch h⟩
theorem vj233 : vd_K 233 ∧ vd_H 233 ∧ tb_maxl 233 ≤ 40 := ⟨vk233, vh233, by decide⟩
theorem vk234 : vd_K 234 := ⟨by decide +kernel, q2264, by decide, by decide +kernel, q58⟩
theorem vh234 : vd_H 234 := ⟨[], rfl, rfl, fun _ h => nomatch h⟩
theorem vj234 : vd_K 234 ∧ vd_H 234 ∧ tb_maxl 234 ≤ 40 := ⟨vk234, vh234, by decide⟩
theorem vk235 : vd_K 235 := ⟨by decide +kernel, q2270, by decide, by decide +kernel, q58⟩
theorem vh235 : vd_H 235 := ⟨[], rfl, rfl, fun _ h => nomatch h⟩
theorem vj235 : vd_K 235 ∧ vd_H 235 ∧ tb_maxl 235 ≤ 40 := ⟨vk235, vh235, by decide⟩
theorem vk236 : vd_K 236 := ⟨by decide +kernel, q2274, by decide, by decide +kernel, q58⟩
theorem vh236 : vd_H 236 := ⟨[], rfl, rfl, fun _ h => nomatch h⟩
theorem vj236 : vd_K 236 ∧ vd_H 236 ∧ tb_maxl 236 ≤ 40 := ⟨vk236, vh236, by decide⟩
theorem vk237 : vd_K 237 := ⟨by decide +kernel, q2278, by decide, by decide +kernel, q58⟩
theorem vh237 : vd_H 237 := ⟨[], rfl, rfl, fun _ h => nomatch h⟩
theorem vj237 : vd_K 237 ∧ vd_H 237 ∧ tb_maxl 237 ≤ 40 := ⟨vk237, vh237, by decide⟩
theorem vk238 : vd_K 238 := ⟨by decide +kernel, q2282, by decide, by decide +kernel, q58⟩
theorem vh238 : vd_H 238 := ⟨[], rfl, rfl, fun _ h => nomatch h⟩
theorem vj238 : vd_K 238 ∧ vd_H 238 ∧ tb_maxl 238 ≤ 40 := ⟨vk238, vh238, by decide⟩
theorem vk239 : vd_K 239 := ⟨by decide +kernel, q2286, by decide, by decide +kernel, q58⟩
theorem vh239 : vd_H 239 := ⟨[], rfl, rfl, fun _ h => nomatch h⟩
theorem vj239 : vd_K 239 ∧ vd_H 239 ∧ tb_maxl 239 ≤ 40 := ⟨vk239, vh239, by decide⟩
theorem vk240 : vd_K 240 := ⟨by decide +kernel, q2290, by decide, by decide +kernel, q58⟩
theorem vh240 : vd_H 240 := ⟨[], rfl, rfl, fun _ h => nomatch h⟩
theorem vj240 : vd_K 240 ∧ vd_H 240 ∧ tb_maxl 240 ≤ 40 := ⟨vk240, vh240, by decide⟩
theorem vk241 : vd_K 241 := ⟨by decide +kernel, q2294, by decide, by decide +kernel, q58⟩
theorem vh241 : vd_H 241 := ⟨[], rfl, rfl, fun _ h => nomatch h⟩
theorem vj241 : vd_K 241 ∧ vd_H 241 ∧ tb_maxl 241 ≤ 40 := ⟨vk241, vh241, by decide⟩
theorem vk242 : vd_K 242 := ⟨by decide +kernel, q2298, by decide, by decide +kernel, q58⟩
theorem vh242 : vd_H 242 := ⟨[], rfl, rfl, fun _ h => nomatch h⟩
theorem vj242 : vd_K 242 ∧ vd_H 242 ∧ tb_maxl 242 ≤ 40 := ⟨vk242, vh242, by decide⟩
theorem vk243 : vd_K 243 := ⟨by decide +kernel, q2302, by decide, by decide +kernel, q58⟩
theorem vh243 : vd_H 243 := ⟨[], rfl, rfl, fun _ h => nomatch h⟩
theorem vj243 : vd_K 243 ∧ vd_H 243 ∧ tb_maxl 243 ≤ 40 := ⟨vk243, vh243, by decide⟩
theorem vk244 : vd_K 244 := ⟨by decide +kernel, q2306, by decide, by decide +kernel, q58⟩
theorem vh244 : vd_H 244 := ⟨[], rfl, rfl, fun _ h => nomatch h⟩
theorem vj244 : vd_K 244 ∧ vd_H 244 ∧ tb_maxl 244 ≤ 40 := ⟨vk244, vh244, by decide⟩
theorem vk245 : vd_K 245 := ⟨by decide +kernel, q2310, by decide, by decide +kernel, q58⟩
theorem vh245 : vd_H 245 := ⟨[], rfl, rfl, fun _ h => nomatch h⟩
theorem vj245 : vd_K 245 ∧ vd_H 245 ∧ tb_maxl 245 ≤ 40 := ⟨vk245, vh245, by decide⟩
theorem vk246 : vd_K 246 := ⟨by decide +kernel, q2314, by decide, by decide +kernel, q58⟩
theorem vh246 : vd_H 246 := ⟨[], rfl, rfl, fun _ h => nomatch h⟩
theorem vj246 : vd_K 246 ∧ vd_H 246 ∧ tb_maxl 246 ≤ 40 := ⟨vk246, vh246, by decide⟩
theorem vk247 : vd_K 247 := ⟨by decide +kernel, q2318, by decide, by decide +kernel, q58⟩
theorem vh247 : vd_H 247 := ⟨[], rfl, rfl, fun _ h => nomatch h⟩
theorem vj247 : vd_K 247 ∧ vd_H 247 ∧ tb_maxl 247 ≤ 40 := ⟨vk247, vh247, by decide⟩
theorem vk248 : vd_K 248 := ⟨by decide +kernel, q2322, by decide, by decide +kernel, q58⟩
theorem vh248 : vd_H 248 := ⟨[], rfl, rfl, fun _ h => nomatch h⟩
theorem vj248 : vd_K 248 ∧ vd_H 248 ∧ tb_maxl 248 ≤ 40 := ⟨vk248, vh248, by decide⟩
theorem vk249 : vd_K 249 := ⟨by decide +kernel, q2326, by decide, by decide +kernel, q58⟩
theorem vh249 : vd_H 249 := ⟨[], rfl, rfl, fun _ h => nomatch h⟩
theorem vj249 : vd_K 249 ∧ vd_H 249 ∧ tb_maxl 249 ≤ 40 := ⟨vk249, vh249, by decide⟩
theorem vk250 : vd_K 250 := ⟨by decide +kernel, q2330, by decide, by decide +kernel, q58⟩
theorem vh250 : vd_H 250 := ⟨[], rfl, rfl, fun _ h => nomatch h⟩
theorem vj250 : vd_K 250 ∧ vd_H 250 ∧ tb_maxl 250 ≤ 40 := ⟨vk250, vh250, by decide⟩
theorem vk251 : vd_K 251 := ⟨by decide +kernel, q1787, by decide, by decide +kernel, q46⟩
theorem vh251 : vd_H 251 := ⟨[(0, 10, 13, 13, 18, "java/lang/IndexOutOfBoundsException"), (0, 10, 17, 15, 19, "java/lang/IllegalArgumentException")], rfl, rfl, (List.forall_mem_cons.mpr ⟨⟨by decide, q1788, vcn18, q1482, vx18⟩, (List.forall_mem_cons.mpr ⟨⟨by decide, q1807, vcn19, q465, vx19⟩, (fun _ h => nomatch h)⟩)⟩)⟩
theorem vj251 : vd_K 251 ∧ vd_H 251 ∧ tb_maxl 251 ≤ 40 := ⟨vk251, vh251, by decide⟩
theorem vk252 : vd_K 252 := ⟨by decide +kernel, q1823, by decide, by decide +kernel, q46⟩
theorem vh252 : vd_H 252 := ⟨[(0, 10, 13, 13, 18, "java/lang/IndexOutOfBoundsException")], rfl, rfl, (List.forall_mem_cons.mpr ⟨⟨by decide, q1788, vcn18, q1482, vx18⟩, (fun _ h => nomatch h)⟩)⟩
theorem vj252 : vd_K 252 ∧ vd_H 252 ∧ tb_maxl 252 ≤ 40 := ⟨vk252, vh252, by decide⟩
theorem vk253 : vd_K 253 := ⟨by decide +kernel, q1830, by decide, by decide +kernel, q46⟩
theorem vh253 : vd_H 253 := ⟨[(0, 10, 13, 13, 18, "java/lang/IndexOutOfBoundsException")], rfl, rfl, (List.forall_mem_cons.mpr ⟨⟨by decide, q1788, vcn18, q1482, vx18⟩, (fun _ h => nomatch h)⟩)⟩
theorem vj253 : vd_K 253 ∧ vd_H 253 ∧ tb_maxl 253 ≤ 40 := ⟨vk253, vh253, by decide⟩
theorem vk254 : vd_K 254 := ⟨by decide +kernel, q1837, by decide, by decide +kernel, q46⟩
theorem vh254 : vd_H 254 := ⟨[(0, 10, 13, 15, 19, "java/lang/IllegalArgumentException")], rfl, rfl, (List.forall_mem_cons.mpr ⟨⟨by decide, q1807, vcn19, q465, vx19⟩, (fun _ h => nomatch h)⟩)⟩
theorem vj254 : vd_K 254 ∧ vd_H 254 ∧ tb_maxl 254 ≤ 40 := ⟨vk254, vh254, by decide⟩
theorem vk255 : vd_K 255 := ⟨by decide +kernel, q1847, by decide, by decide +kernel, q46⟩
theorem vh255 : vd_H 255 := ⟨[(0, 12, 15, 15, 19, "java/lang/IllegalArgumentException")], rfl, rfl, (List.forall_mem_cons.mpr ⟨⟨by decide, q1807, vcn19, q465, vx19⟩, (fun _ h => nomatch h)⟩)⟩
theorem vj255 : vd_K 255 ∧ vd_H 255 ∧ tb_maxl 255 ≤ 40 := ⟨vk255, vh255, by decide⟩
theorem vk256 : vd_K 256 := ⟨by decide +kernel, q1854, by decide, by decide +kernel, q46⟩
theorem vh256 : vd_H 256 := ⟨[(0, 10, 13, 15, 19, "java/lang/IllegalArgumentException")], rfl, rfl, (List.forall_mem_cons.mpr ⟨⟨by decide, q1807, vcn19, q465, vx19⟩, (fun _ h => nomatch h)⟩)⟩
theorem vj256 : vd_K 256 ∧ vd_H 256 ∧ tb_maxl 256 ≤ 40 := ⟨vk256, vh256, by decide⟩
theorem vk257 : vd_K 257 := ⟨by decide +kernel, q1861, by decide, by decide +kernel, q46⟩
theorem vh257 : vd_H 257 := ⟨[(0, 16, 19, 37, 20, "java/lang/IllegalStateException")], rfl, rfl, (List.forall_mem_cons.mpr ⟨⟨by decide, q1862, vcn20, q1872, vx20⟩, (fun _ h => nomatch h)⟩)⟩
theorem vj257 : vd_K 257 ∧ vd_H 257 ∧ tb_maxl 257 ≤ 40 := ⟨vk257, vh257, by decide⟩
theorem vk258 : vd_K 258 := ⟨by decide +kernel, q1891, by decide, by decide +kernel, q46⟩
theorem vh258 : vd_H 258 := ⟨[(0, 9, 12, 15, 19, "java/lang/IllegalArgumentException")], rfl, rfl, (List.forall_mem_cons.mpr ⟨⟨by decide, q1807, vcn19, q465, vx19⟩, (fun _ h => nomatch h)⟩)⟩
theorem vj258 : vd_K 258 ∧ vd_H 258 ∧ tb_maxl 258 ≤ 40 := ⟨vk258, vh258, by decide⟩
theorem vk259 : vd_K 259 := ⟨by decide +kernel, q1898, by decide, by decide +kernel, q46⟩
theorem vh259 : vd_H 259 := ⟨[(0, 8, 11, 37, 20, "java/lang/IllegalStateException")], rfl, rfl, (List.forall_mem_cons.mpr ⟨⟨by decide, q1862, vcn20, q1872, vx20⟩, (fun _ h => nomatch h)⟩)⟩
theorem vj259 : vd_K 259 ∧ vd_H 259 ∧ tb_maxl 259 ≤ 40 := ⟨vk259, vh259, by decide⟩
theorem vk260 : vd_K 260 := ⟨by decide +kernel, q1936, by decide, by decide +kernel, q46⟩
theorem vh260 : vd_H 260 := ⟨[(0, 10, 13, 13, 18, "java/lang/IndexOutOfBoundsException")], rfl, rfl, (List.forall_mem_cons.mpr ⟨⟨by decide, q1788, vcn18, q1482, vx18⟩, (fun _ h => nomatch h)⟩)⟩
theorem vj260 : vd_K 260 ∧ vd_H 260 ∧ tb_maxl 260 ≤ 40 := ⟨vk260, vh260, by decide⟩
theorem vk261 : vd_K 261 := ⟨by decide +kernel, q1959, by decide, by decide +kernel, q46⟩
theorem vh261 : vd_H 261 := ⟨[(0, 10, 13, 13, 18, "java/lang/IndexOutOfBoundsException")], rfl, rfl, (List.forall_mem_cons.mpr ⟨⟨by decide, q1788, vcn18, q1482, vx18⟩, (fun _ h => nomatch h)⟩)⟩
theorem vj261 : vd_K 261 ∧ vd_H 261 ∧ tb_maxl 261 ≤ 40 := ⟨vk261, vh261, by decide⟩
theorem vk262 : vd_K 262 := ⟨by decide +kernel, q1966, by decide, by decide +kernel, q46⟩
theorem vh262 : vd_H 262 := ⟨[(0, 12, 15, 13, 18, "java/lang/IndexOutOfBoundsException"), (0, 12, 19, 15, 19, "java/lang/IllegalArgumentException"), (0, 12, 23, 37, 20, "java/lang/IllegalStateException")], rfl, rfl, (List.forall_mem_cons.mpr ⟨⟨by decide, q1788, vcn18, q1482, vx18⟩, (List.forall_mem_cons.mpr ⟨⟨by decide, q1807, vcn19, q465, vx19⟩, (List.forall_mem_cons.mpr ⟨⟨by decide, q1862, vcn20, q1872, vx20⟩, (fun _ h => nomatch h)⟩)⟩)⟩)⟩
theorem vj262 : vd_K 262 ∧ vd_H 262 ∧ tb_maxl 262 ≤ 40 := ⟨vk262, vh262, by decide⟩
theorem vk263 : vd_K 263 := ⟨by decide +kernel, q1984, by decide, by decide +kernel, q46⟩
theorem vh263 : vd_H 263 := ⟨[(0, 10, 13, 13, 18, "java/lang/IndexOutOfBoundsException")], rfl, rfl, (List.forall_mem_cons.mpr ⟨⟨by decide, q1788, vcn18, q1482, vx18⟩, (fun _ h => nomatch h)⟩)⟩
theorem vj263 : vd_K 263 ∧ vd_H 263 ∧ tb_maxl 263 ≤ 40 := ⟨vk263, vh263, by decide⟩
theorem vk264 : vd_K 264 := ⟨by decide +kernel, q1991, by decide, by decide +kernel, q46⟩
theorem vh264 : vd_H 264 := ⟨[(0, 9, 12, 13, 18, "java/lang/IndexOutOfBoundsException")], rfl, rfl, (List.forall_mem_cons.mpr ⟨⟨by decide, q1788, vcn18, q1482, vx18⟩, (fun _ h => nomatch h)⟩)⟩
theorem vj264 : vd_K 264 ∧ vd_H 264 ∧ tb_maxl 264 ≤ 40 := ⟨vk264, vh264, by decide⟩
theorem vk265 : vd_K 265 := ⟨by decide +kernel, q1998, by decide, by decide +kernel, q46⟩
theorem vh265 : vd_H 265 := ⟨[(0, 9, 12, 13, 18, "java/lang/IndexOutOfBoundsException")], rfl, rfl, (List.forall_mem_cons.mpr ⟨⟨by decide, q1788, vcn18, q1482, vx18⟩, (fun _ h => nomatch h)⟩)⟩
theorem vj265 : vd_K 265 ∧ vd_H 265 ∧ tb_maxl 265 ≤ 40 := ⟨vk265, vh265, by decide⟩
theorem vk266 : vd_K 266 := ⟨by decide +kernel, q2057, by decide, by decide +kernel, q46⟩
theorem vh266 : vd_H 266 := ⟨[(0, 9, 12, 13, 18, "java/lang/IndexOutOfBoundsException")], rfl, rfl, (List.forall_mem_cons.mpr ⟨⟨by decide, q1788, vcn18, q1482, vx18⟩, (fun _ h => nomatch h)⟩)⟩
theorem vj266 : vd_K 266 ∧ vd_H 266 ∧ tb_maxl 266 ≤ 40 := ⟨vk266, vh266, by decide⟩
theorem vk267 : vd_K 267 := ⟨by decide +kernel, q2064, by decide, by decide +kernel, q46⟩
theorem vh267 : vd_H 267 := ⟨[(0, 9, 12, 13, 18, "java/lang/IndexOutOfBoundsException")], rfl, rfl, (List.forall_mem_cons.mpr ⟨⟨by decide, q1788, vcn18, q1482, vx18⟩, (fun _ h => nomatch h)⟩)⟩
theorem vj267 : vd_K 267 ∧ vd_H 267 ∧ tb_maxl 267 ≤ 40 := ⟨vk267, vh267, by decide⟩
theorem vp_0_7 (mn : String) : vd_P "java/util/AbstractList" mn 7 10 0 := ⟨_, TJ2, 3, "java/util/AbstractList", rfl, by decide, Or.inl q152, Or.inl rfl, Or.inl rfl⟩
theorem vp_1_9 (mn : String) : vd_P "java/util/ArrayList" mn 9 10 1 := ⟨_, TJ2, 3, "java/util/ArrayList", rfl, by decide, Or.inl q148, Or.inl rfl, Or.inl rfl⟩
theorem vg_1_63 : vd_G "java/util/ArrayList" 63 10 0 := ⟨_, TJ2, 3, "java/util/ArrayList", rfl, by decide, Or.inl q155, Or.inr q154⟩
theorem vp_1_63 (mn : String) : vd_P "java/util/ArrayList" mn 63 10 0 := ⟨_, TJ2, 3, "java/util/ArrayList", rfl, by decide, Or.inl q155, Or.inr q154, Or.inl rfl⟩
theorem vg_1_9 : vd_G "java/util/ArrayList" 9 10 1 := ⟨_, TJ2, 3, "java/util/ArrayList", rfl, by decide, Or.inl q148, Or.inl rfl⟩
theorem vg_1_48 : vd_G "java/util/ArrayList" 48 10 2 := ⟨_, TJ2, 3, "java/util/ArrayList", rfl, by decide, Or.inl q151, Or.inl rfl⟩
theorem vp_1_48 (mn : String) : vd_P "java/util/ArrayList" mn 48 10 2 := ⟨_, TJ2, 3, "java/util/ArrayList", rfl, by decide, Or.inl q151, Or.inl rfl, Or.inl rfl⟩
theorem vp_2_7 (mn : String) : vd_P "java/util/TreeSet" mn 7 12 0 := ⟨_, TJ24, 1, "java/util/TreeSet", rfl, by decide, Or.inl q422, Or.inl rfl, Or.inl rfl⟩
theorem vg_2_7 : vd_G "java/util/TreeSet" 7 12 0 := ⟨_, TJ24, 1, "java/util/TreeSet", rfl, by decide, Or.inl q422, Or.inl rfl⟩
theorem vp_3_7 (mn : String) : vd_P "java/util/TreeMap" mn 7 13 4 := ⟨_, TJ26, 9, "java/util/TreeMap", rfl, by decide, Or.inl q392, Or.inl rfl, Or.inl rfl⟩
theorem vp_3_13 (mn : String) : vd_P "java/util/TreeMap" mn 13 13 5 := ⟨_, TJ26, 9, "java/util/TreeMap", rfl, by decide, Or.inl q393, Or.inl rfl, Or.inl rfl⟩
theorem vp_3_16i : vd_P "java/util/TreeMap" "<init>" 16 13 2 := ⟨_, TJ26, 9, "java/util/TreeMap", rfl, by decide, Or.inl q390, Or.inl rfl, Or.inr ⟨rfl, rfl, rfl, q390⟩⟩
theorem vg_3_101 : vd_G "java/util/TreeMap" 101 13 3 := ⟨_, TJ26, 9, "java/util/TreeMap", rfl, by decide, Or.inl q391, Or.inl rfl⟩
theorem vg_3_16 : vd_G "java/util/TreeMap" 16 13 2 := ⟨_, TJ26, 9, "java/util/TreeMap", rfl, by decide, Or.inl q390, Or.inl rfl⟩
theorem vg_3_105 : vd_G "java/util/TreeMap" 105 14 0 := ⟨_, TJ29, 6, "java/util/TreeMap$Entry", rfl, by decide, Or.inl q900, Or.inl rfl⟩
theorem vg_3_111 : vd_G "java/util/TreeMap" 111 14 2 := ⟨_, TJ29, 6, "java/util/TreeMap$Entry", rfl, by decide, Or.inl q903, Or.inl rfl⟩
theorem vg_3_114 : vd_G "java/util/TreeMap" 114 14 3 := ⟨_, TJ29, 6, "java/util/TreeMap$Entry", rfl, by decide, Or.inl q904, Or.inl rfl⟩
theorem vg_3_58 : vd_G "java/util/TreeMap" 58 14 1 := ⟨_, TJ29, 6, "java/util/TreeMap$Entry", rfl, by decide, Or.inl q902, Or.inl rfl⟩
theorem vp_3_58 (mn : String) : vd_P "java/util/TreeMap" mn 58 14 1 := ⟨_, TJ29, 6, "java/util/TreeMap$Entry", rfl, by decide, Or.inl q902, Or.inl rfl, Or.inl rfl⟩
theorem vp_3_101 (mn : String) : vd_P "java/util/TreeMap" mn 101 13 3 := ⟨_, TJ26, 9, "java/util/TreeMap", rfl, by decide, Or.inl q391, Or.inl rfl, Or.inl rfl⟩
theorem vg_3_13 : vd_G "java/util/TreeMap" 13 13 5 := ⟨_, TJ26, 9, "java/util/TreeMap", rfl, by decide, Or.inl q393, Or.inl rfl⟩
theorem vp_3_111 (mn : String) : vd_P "java/util/TreeMap" mn 111 14 2 := ⟨_, TJ29, 6, "java/util/TreeMap$Entry", rfl, by decide, Or.inl q903, Or.inl rfl, Or.inl rfl⟩
theorem vp_3_114 (mn : String) : vd_P "java/util/TreeMap" mn 114 14 3 := ⟨_, TJ29, 6, "java/util/TreeMap$Entry", rfl, by decide, Or.inl q904, Or.inl rfl, Or.inl rfl⟩
theorem vg_3_7 : vd_G "java/util/TreeMap" 7 13 4 := ⟨_, TJ26, 9, "java/util/TreeMap", rfl, by decide, Or.inl q392, Or.inl rfl⟩
theorem vp_3_290 (mn : String) : vd_P "java/util/TreeMap" mn 290 14 5 := ⟨_, TJ29, 6, "java/util/TreeMap$Entry", rfl, by decide, Or.inl q908, Or.inl rfl, Or.inl rfl⟩
theorem vg_3_124 : vd_G "java/util/TreeMap" 124 14 4 := ⟨_, TJ29, 6, "java/util/TreeMap$Entry", rfl, by decide, Or.inl q906, Or.inl rfl⟩
theorem vg_3_290 : vd_G "java/util/TreeMap" 290 14 5 := ⟨_, TJ29, 6, "java/util/TreeMap$Entry", rfl, by decide, Or.inl q908, Or.inl rfl⟩
theorem vp_3_124 (mn : String) : vd_P "java/util/TreeMap" mn 124 14 4 := ⟨_, TJ29, 6, "java/util/TreeMap$Entry", rfl, by decide, Or.inl q906, Or.inl rfl, Or.inl rfl⟩
theorem vg_3_191 : vd_G "java/util/TreeMap" 191 13 7 := ⟨_, TJ26, 9, "java/util/TreeMap", rfl, by decide, Or.inl q395, Or.inl rfl⟩
theorem vp_3_191 (mn : String) : vd_P "java/util/TreeMap" mn 191 13 7 := ⟨_, TJ26, 9, "java/util/TreeMap", rfl, by decide, Or.inl q395, Or.inl rfl, Or.inl rfl⟩
theorem vp_4_9 (mn : String) : vd_P "java/util/TreeMap$Entry" mn 9 14 5 := ⟨_, TJ29, 6, "java/util/TreeMap$Entry", rfl, by decide, Or.inl q907, Or.inl rfl, Or.inl rfl⟩
theorem vp_4_15 (mn : String) : vd_P "java/util/TreeMap$Entry" mn 15 14 0 := ⟨_, TJ29, 6, "java/util/TreeMap$Entry", rfl, by decide, Or.inl q898, Or.inl rfl, Or.inl rfl⟩
theorem vp_4_19 (mn : String) : vd_P "java/util/TreeMap$Entry" mn 19 14 1 := ⟨_, TJ29, 6, "java/util/TreeMap$Entry", rfl, by decide, Or.inl q901, Or.inl rfl, Or.inl rfl⟩
theorem vp_4_22 (mn : String) : vd_P "java/util/TreeMap$Entry" mn 22 14 4 := ⟨_, TJ29, 6, "java/util/TreeMap$Entry", rfl, by decide, Or.inl q905, Or.inl rfl, Or.inl rfl⟩
theorem vp_5_15 (mn : String) : vd_P "java/lang/AbstractStringBuilder" mn 15 8 0 := ⟨_, TJ4, 4, "java/lang/AbstractStringBuilder", rfl, by decide, Or.inl q181, Or.inl rfl, Or.inl rfl⟩
theorem vp_5_22 (mn : String) : vd_P "java/lang/AbstractStringBuilder" mn 22 8 1 := ⟨_, TJ4, 4, "java/lang/AbstractStringBuilder", rfl, by decide, Or.inl q182, Or.inl rfl, Or.inl rfl⟩
theorem vg_5_79 : vd_G "java/lang/AbstractStringBuilder" 79 8 3 := ⟨_, TJ4, 4, "java/lang/AbstractStringBuilder", rfl, by decide, Or.inl q185, Or.inl rfl⟩
theorem vg_5_22 : vd_G "java/lang/AbstractStringBuilder" 22 8 1 := ⟨_, TJ4, 4, "java/lang/AbstractStringBuilder", rfl, by decide, Or.inl q182, Or.inl rfl⟩
theorem vg_5_15 : vd_G "java/lang/AbstractStringBuilder" 15 8 0 := ⟨_, TJ4, 4, "java/lang/AbstractStringBuilder", rfl, by decide, Or.inl q181, Or.inl rfl⟩
theorem vp_5_79 (mn : String) : vd_P "java/lang/AbstractStringBuilder" mn 79 8 3 := ⟨_, TJ4, 4, "java/lang/AbstractStringBuilder", rfl, by decide, Or.inl q185, Or.inl rfl, Or.inl rfl⟩
theorem vp_5_73 (mn : String) : vd_P "java/lang/AbstractStringBuilder" mn 73 8 2 := ⟨_, TJ4, 4, "java/lang/AbstractStringBuilder", rfl, by decide, Or.inl q183, Or.inl rfl, Or.inl rfl⟩
theorem vp_6_1i : vd_P "java/util/ArrayList$Itr" "<init>" 1 11 3 := ⟨_, TJ31, 4, "java/util/ArrayList$Itr", rfl, by decide, Or.inl q1026, Or.inl rfl, Or.inr ⟨rfl, rfl, rfl, q1026⟩⟩
theorem vp_6_13 (mn : String) : vd_P "java/util/ArrayList$Itr" mn 13 11 1 := ⟨_, TJ31, 4, "java/util/ArrayList$Itr", rfl, by decide, Or.inl q1024, Or.inl rfl, Or.inl rfl⟩
theorem vg_6_1 : vd_G "java/util/ArrayList$Itr" 1 11 3 := ⟨_, TJ31, 4, "java/util/ArrayList$Itr", rfl, by decide, Or.inl q1026, Or.inl rfl⟩
theorem vg_6_17 : vd_G "java/util/ArrayList$Itr" 17 10 0 := ⟨_, TJ2, 3, "java/util/ArrayList", rfl, by decide, Or.inl q153, Or.inr q154⟩
theorem vp_6_22 (mn : String) : vd_P "java/util/ArrayList$Itr" mn 22 11 2 := ⟨_, TJ31, 4, "java/util/ArrayList$Itr", rfl, by decide, Or.inl q1025, Or.inl rfl, Or.inl rfl⟩
theorem vg_6_25 : vd_G "java/util/ArrayList$Itr" 25 11 0 := ⟨_, TJ31, 4, "java/util/ArrayList$Itr", rfl, by decide, Or.inl q1023, Or.inl rfl⟩
theorem vg_6_28 : vd_G "java/util/ArrayList$Itr" 28 10 2 := ⟨_, TJ2, 3, "java/util/ArrayList", rfl, by decide, Or.inr ⟨_, q150⟩, Or.inl rfl⟩
theorem vg_6_37 : vd_G "java/util/ArrayList$Itr" 37 10 1 := ⟨_, TJ2, 3, "java/util/ArrayList", rfl, by decide, Or.inl q149, Or.inl rfl⟩
theorem vp_6_25 (mn : String) : vd_P "java/util/ArrayList$Itr" mn 25 11 0 := ⟨_, TJ31, 4, "java/util/ArrayList$Itr", rfl, by decide, Or.inl q1023, Or.inl rfl, Or.inl rfl⟩
theorem vg_6_22 : vd_G "java/util/ArrayList$Itr" 22 11 2 := ⟨_, TJ31, 4, "java/util/ArrayList$Itr", rfl, by decide, Or.inl q1025, Or.inl rfl⟩
theorem vg_7_26 : vd_G "java/util/TreeMap$PrivateEntryIterator" 26 16 0 := ⟨_, TJ33, 4, "java/util/TreeMap$PrivateEntryIterator", rfl, by decide, Or.inl q1196, Or.inl rfl⟩
theorem vg_7_1 : vd_G "java/util/TreeMap$PrivateEntryIterator" 1 16 3 := ⟨_, TJ33, 4, "java/util/TreeMap$PrivateEntryIterator", rfl, by decide, Or.inl q1199, Or.inl rfl⟩
theorem vg_7_13 : vd_G "java/util/TreeMap$PrivateEntryIterator" 13 13 5 := ⟨_, TJ26, 9, "java/util/TreeMap", rfl, by decide, Or.inr ⟨_, q394⟩, Or.inl rfl⟩
theorem vg_7_19 : vd_G "java/util/TreeMap$PrivateEntryIterator" 19 16 2 := ⟨_, TJ33, 4, "java/util/TreeMap$PrivateEntryIterator", rfl, by decide, Or.inl q1198, Or.inl rfl⟩
theorem vp_7_26 (mn : String) : vd_P "java/util/TreeMap$PrivateEntryIterator" mn 26 16 0 := ⟨_, TJ33, 4, "java/util/TreeMap$PrivateEntryIterator", rfl, by decide, Or.inl q1196, Or.inl rfl, Or.inl rfl⟩
theorem vp_7_22 (mn : String) : vd_P "java/util/TreeMap$PrivateEntryIterator" mn 22 16 1 := ⟨_, TJ33, 4, "java/util/TreeMap$PrivateEntryIterator", rfl, by decide, Or.inl q1197, Or.inl rfl, Or.inl rfl⟩
theorem vp_7_1i : vd_P "java/util/TreeMap$PrivateEntryIterator" "<init>" 1 16 3 := ⟨_, TJ33, 4, "java/util/TreeMap$PrivateEntryIterator", rfl, by decide, Or.inl q1199, Or.inl rfl, Or.inr ⟨rfl, rfl, rfl, q1199⟩⟩
theorem vp_7_19 (mn : String) : vd_P "java/util/TreeMap$PrivateEntryIterator" mn 19 16 2 := ⟨_, TJ33, 4, "java/util/TreeMap$PrivateEntryIterator", rfl, by decide, Or.inl q1198, Or.inl rfl, Or.inl rfl⟩
theorem vg_8_13 : vd_G "java/util/TreeMap$KeyIterator" 13 14 0 := ⟨_, TJ29, 6, "java/util/TreeMap$Entry", rfl, by decide, Or.inl q899, Or.inl rfl⟩
theorem vg_9_7 : vd_G "java/util/TreeMap$KeySet" 7 15 0 := ⟨_, TJ34, 1, "java/util/TreeMap$KeySet", rfl, by decide, Or.inl q1234, Or.inl rfl⟩
theorem vp_9_7i : vd_P "java/util/TreeMap$KeySet" "<init>" 7 15 0 := ⟨_, TJ34, 1, "java/util/TreeMap$KeySet", rfl, by decide, Or.inl q1234, Or.inl rfl, Or.inr ⟨rfl, rfl, rfl, q1234⟩⟩
theorem vg_10_9 : vd_G "java/lang/String" 9 9 0 := ⟨_, TJ5, 4, "java/lang/String", rfl, by decide, Or.inl q666, Or.inl rfl⟩
theorem vg_10_15 : vd_G "java/lang/String" 15 9 1 := ⟨_, TJ5, 4, "java/lang/String", rfl, by decide, Or.inl q667, Or.inl rfl⟩
theorem vp_10_15i : vd_P "java/lang/String" "<init>" 15 9 1 := ⟨_, TJ5, 4, "java/lang/String", rfl, by decide, Or.inl q667, Or.inl rfl, Or.inr ⟨rfl, rfl, rfl, q667⟩⟩
theorem vp_10_9i : vd_P "java/lang/String" "<init>" 9 9 0 := ⟨_, TJ5, 4, "java/lang/String", rfl, by decide, Or.inl q666, Or.inl rfl, Or.inr ⟨rfl, rfl, rfl, q666⟩⟩
theorem vg_10_1048 : vd_G "java/lang/String" 1048 8 2 := ⟨_, TJ4, 4, "java/lang/AbstractStringBuilder", rfl, by decide, Or.inl q184, Or.inl rfl⟩
theorem vp_11_12i : vd_P "KnotLetters$Knots" "<init>" 12 3 0 := ⟨_, TX4, 1, "KnotLetters$Knots", rfl, by decide, Or.inl q209, Or.inl rfl, Or.inr ⟨rfl, rfl, rfl, q209⟩⟩
theorem vg_11_12 : vd_G "KnotLetters$Knots" 12 3 0 := ⟨_, TX4, 1, "KnotLetters$Knots", rfl, by decide, Or.inl q209, Or.inl rfl⟩
theorem vp_12_10 (mn : String) : vd_P "KnotLetters$Letter" mn 10 2 1 := ⟨_, TX3, 3, "KnotLetters$Letter", rfl, by decide, Or.inl q215, Or.inl rfl, Or.inl rfl⟩
theorem vp_12_16i : vd_P "KnotLetters$Letter" "<init>" 16 2 0 := ⟨_, TX3, 3, "KnotLetters$Letter", rfl, by decide, Or.inl q213, Or.inl rfl, Or.inr ⟨rfl, rfl, rfl, q213⟩⟩
theorem vg_12_10 : vd_G "KnotLetters$Letter" 10 2 1 := ⟨_, TX3, 3, "KnotLetters$Letter", rfl, by decide, Or.inl q215, Or.inl rfl⟩
theorem vg_12_27 : vd_G "KnotLetters$Letter" 27 2 2 := ⟨_, TX3, 3, "KnotLetters$Letter", rfl, by decide, Or.inl q217, Or.inl rfl⟩
theorem vp_13_10i : vd_P "KnotLetters$Cord" "<init>" 10 4 0 := ⟨_, TX6, 3, "KnotLetters$Cord", rfl, by decide, Or.inl q1914, Or.inl rfl, Or.inr ⟨rfl, rfl, rfl, q1914⟩⟩
theorem vp_14_11i : vd_P "KnotLetters$Feel" "<init>" 11 1 0 := ⟨_, TX2, 5, "KnotLetters$Feel", rfl, by decide, Or.inl q113, Or.inl rfl, Or.inr ⟨rfl, rfl, rfl, q113⟩⟩
theorem vp_14_16i : vd_P "KnotLetters$Feel" "<init>" 16 1 3 := ⟨_, TX2, 5, "KnotLetters$Feel", rfl, by decide, Or.inl q119, Or.inl rfl, Or.inr ⟨rfl, rfl, rfl, q119⟩⟩
theorem vp_14_20i : vd_P "KnotLetters$Feel" "<init>" 20 1 4 := ⟨_, TX2, 5, "KnotLetters$Feel", rfl, by decide, Or.inl q121, Or.inl rfl, Or.inr ⟨rfl, rfl, rfl, q121⟩⟩
theorem vp_14_23 (mn : String) : vd_P "KnotLetters$Feel" mn 23 1 1 := ⟨_, TX2, 5, "KnotLetters$Feel", rfl, by decide, Or.inl q115, Or.inl rfl, Or.inl rfl⟩
theorem vp_14_27 (mn : String) : vd_P "KnotLetters$Feel" mn 27 1 2 := ⟨_, TX2, 5, "KnotLetters$Feel", rfl, by decide, Or.inl q117, Or.inl rfl, Or.inl rfl⟩
theorem vg_14_11 : vd_G "KnotLetters$Feel" 11 1 0 := ⟨_, TX2, 5, "KnotLetters$Feel", rfl, by decide, Or.inl q113, Or.inl rfl⟩
theorem vg_14_16 : vd_G "KnotLetters$Feel" 16 1 3 := ⟨_, TX2, 5, "KnotLetters$Feel", rfl, by decide, Or.inl q119, Or.inl rfl⟩
theorem vg_14_20 : vd_G "KnotLetters$Feel" 20 1 4 := ⟨_, TX2, 5, "KnotLetters$Feel", rfl, by decide, Or.inl q121, Or.inl rfl⟩
theorem vg_14_27 : vd_G "KnotLetters$Feel" 27 1 2 := ⟨_, TX2, 5, "KnotLetters$Feel", rfl, by decide, Or.inl q117, Or.inl rfl⟩
theorem vg_14_23 : vd_G "KnotLetters$Feel" 23 1 1 := ⟨_, TX2, 5, "KnotLetters$Feel", rfl, by decide, Or.inl q115, Or.inl rfl⟩
theorem vp_15_7i : vd_P "KnotLetters$Reading" "<init>" 7 5 0 := ⟨_, TX7, 4, "KnotLetters$Reading", rfl, by decide, Or.inl q1706, Or.inl rfl, Or.inr ⟨rfl, rfl, rfl, q1706⟩⟩
theorem vp_15_13i : vd_P "KnotLetters$Reading" "<init>" 13 5 2 := ⟨_, TX7, 4, "KnotLetters$Reading", rfl, by decide, Or.inl q1711, Or.inl rfl, Or.inr ⟨rfl, rfl, rfl, q1711⟩⟩
theorem vp_15_17i : vd_P "KnotLetters$Reading" "<init>" 17 5 3 := ⟨_, TX7, 4, "KnotLetters$Reading", rfl, by decide, Or.inl q1713, Or.inl rfl, Or.inr ⟨rfl, rfl, rfl, q1713⟩⟩
theorem vg_15_21 : vd_G "KnotLetters$Reading" 21 5 1 := ⟨_, TX7, 4, "KnotLetters$Reading", rfl, by decide, Or.inl q1709, Or.inl rfl⟩
theorem vp_15_21i : vd_P "KnotLetters$Reading" "<init>" 21 5 1 := ⟨_, TX7, 4, "KnotLetters$Reading", rfl, by decide, Or.inl q1709, Or.inl rfl, Or.inr ⟨rfl, rfl, rfl, q1709⟩⟩
theorem vg_15_13 : vd_G "KnotLetters$Reading" 13 5 2 := ⟨_, TX7, 4, "KnotLetters$Reading", rfl, by decide, Or.inl q1711, Or.inl rfl⟩
theorem vg_15_17 : vd_G "KnotLetters$Reading" 17 5 3 := ⟨_, TX7, 4, "KnotLetters$Reading", rfl, by decide, Or.inl q1713, Or.inl rfl⟩
theorem vg_16_7 : vd_G "KnotLetters$Choice" 7 5 0 := ⟨_, TX7, 4, "KnotLetters$Reading", rfl, by decide, Or.inl q1707, Or.inl rfl⟩
theorem vp_16_13 (mn : String) : vd_P "KnotLetters$Choice" mn 13 6 0 := ⟨_, TX8, 3, "KnotLetters$Choice", rfl, by decide, Or.inl q1736, Or.inl rfl, Or.inl rfl⟩
theorem vg_16_16 : vd_G "KnotLetters$Choice" 16 5 2 := ⟨_, TX7, 4, "KnotLetters$Reading", rfl, by decide, Or.inr ⟨_, q1712⟩, Or.inl rfl⟩
theorem vp_16_20 (mn : String) : vd_P "KnotLetters$Choice" mn 20 6 1 := ⟨_, TX8, 3, "KnotLetters$Choice", rfl, by decide, Or.inl q1737, Or.inl rfl, Or.inl rfl⟩
theorem vg_16_21 : vd_G "KnotLetters$Choice" 21 5 3 := ⟨_, TX7, 4, "KnotLetters$Reading", rfl, by decide, Or.inr ⟨_, q1714⟩, Or.inl rfl⟩
theorem vp_16_25 (mn : String) : vd_P "KnotLetters$Choice" mn 25 6 2 := ⟨_, TX8, 3, "KnotLetters$Choice", rfl, by decide, Or.inl q1738, Or.inl rfl, Or.inl rfl⟩
theorem vg_16_13 : vd_G "KnotLetters$Choice" 13 6 0 := ⟨_, TX8, 3, "KnotLetters$Choice", rfl, by decide, Or.inl q1736, Or.inl rfl⟩
theorem vg_16_26 : vd_G "KnotLetters$Choice" 26 5 1 := ⟨_, TX7, 4, "KnotLetters$Reading", rfl, by decide, Or.inl q1710, Or.inl rfl⟩
theorem vg_16_20 : vd_G "KnotLetters$Choice" 20 6 1 := ⟨_, TX8, 3, "KnotLetters$Choice", rfl, by decide, Or.inl q1737, Or.inl rfl⟩
theorem vg_16_25 : vd_G "KnotLetters$Choice" 25 6 2 := ⟨_, TX8, 3, "KnotLetters$Choice", rfl, by decide, Or.inl q1738, Or.inl rfl⟩
theorem vp_17_24i : vd_P "KnotLetters" "<init>" 24 0 0 := ⟨_, TX1, 11, "KnotLetters", rfl, by decide, Or.inl q226, Or.inl rfl, Or.inr ⟨rfl, rfl, rfl, q226⟩⟩
theorem vp_17_31i : vd_P "KnotLetters" "<init>" 31 0 1 := ⟨_, TX1, 11, "KnotLetters", rfl, by decide, Or.inl q227, Or.inl rfl, Or.inr ⟨rfl, rfl, rfl, q227⟩⟩
theorem vp_17_38i : vd_P "KnotLetters" "<init>" 38 0 2 := ⟨_, TX1, 11, "KnotLetters", rfl, by decide, Or.inl q228, Or.inl rfl, Or.inr ⟨rfl, rfl, rfl, q228⟩⟩
theorem vp_17_42i : vd_P "KnotLetters" "<init>" 42 0 3 := ⟨_, TX1, 11, "KnotLetters", rfl, by decide, Or.inl q229, Or.inl rfl, Or.inr ⟨rfl, rfl, rfl, q229⟩⟩
theorem vp_17_49i : vd_P "KnotLetters" "<init>" 49 0 10 := ⟨_, TX1, 11, "KnotLetters", rfl, by decide, Or.inl q236, Or.inl rfl, Or.inr ⟨rfl, rfl, rfl, q236⟩⟩
theorem vg_17_24 : vd_G "KnotLetters" 24 0 0 := ⟨_, TX1, 11, "KnotLetters", rfl, by decide, Or.inl q226, Or.inl rfl⟩
theorem vg_17_66 : vd_G "KnotLetters" 66 2 1 := ⟨_, TX3, 3, "KnotLetters$Letter", rfl, by decide, Or.inr ⟨_, q216⟩, Or.inl rfl⟩
theorem vg_17_31 : vd_G "KnotLetters" 31 0 1 := ⟨_, TX1, 11, "KnotLetters", rfl, by decide, Or.inl q227, Or.inl rfl⟩
theorem vg_17_38 : vd_G "KnotLetters" 38 0 2 := ⟨_, TX1, 11, "KnotLetters", rfl, by decide, Or.inl q228, Or.inl rfl⟩
theorem vg_17_200 : vd_G "KnotLetters" 200 4 0 := ⟨_, TX6, 3, "KnotLetters$Cord", rfl, by decide, Or.inr ⟨_, q1915⟩, Or.inl rfl⟩
theorem vg_17_49 : vd_G "KnotLetters" 49 0 10 := ⟨_, TX1, 11, "KnotLetters", rfl, by decide, Or.inl q236, Or.inl rfl⟩
theorem vg_17_217 : vd_G "KnotLetters" 217 0 7 := ⟨_, TX1, 11, "KnotLetters", rfl, by decide, Or.inl q233, Or.inl rfl⟩
theorem vg_17_225 : vd_G "KnotLetters" 225 0 8 := ⟨_, TX1, 11, "KnotLetters", rfl, by decide, Or.inl q234, Or.inl rfl⟩
theorem vg_17_221 : vd_G "KnotLetters" 221 0 9 := ⟨_, TX1, 11, "KnotLetters", rfl, by decide, Or.inl q235, Or.inl rfl⟩
theorem vg_17_185 : vd_G "KnotLetters" 185 0 4 := ⟨_, TX1, 11, "KnotLetters", rfl, by decide, Or.inl q230, Or.inl rfl⟩
theorem vg_17_222 : vd_G "KnotLetters" 222 4 1 := ⟨_, TX6, 3, "KnotLetters$Cord", rfl, by decide, Or.inr ⟨_, q1916⟩, Or.inl rfl⟩
theorem vg_17_218 : vd_G "KnotLetters" 218 4 2 := ⟨_, TX6, 3, "KnotLetters$Cord", rfl, by decide, Or.inr ⟨_, q1917⟩, Or.inl rfl⟩
theorem vg_17_233 : vd_G "KnotLetters" 233 5 0 := ⟨_, TX7, 4, "KnotLetters$Reading", rfl, by decide, Or.inl q1708, Or.inl rfl⟩
theorem vg_17_176 : vd_G "KnotLetters" 176 1 2 := ⟨_, TX2, 5, "KnotLetters$Feel", rfl, by decide, Or.inr ⟨_, q118⟩, Or.inl rfl⟩
theorem vg_17_247 : vd_G "KnotLetters" 247 1 3 := ⟨_, TX2, 5, "KnotLetters$Feel", rfl, by decide, Or.inr ⟨_, q120⟩, Or.inl rfl⟩
theorem vg_17_251 : vd_G "KnotLetters" 251 2 0 := ⟨_, TX3, 3, "KnotLetters$Letter", rfl, by decide, Or.inl q214, Or.inl rfl⟩
theorem vp_17_66 (mn : String) : vd_P "KnotLetters" mn 66 2 1 := ⟨_, TX3, 3, "KnotLetters$Letter", rfl, by decide, Or.inr ⟨_, q216⟩, Or.inl rfl, Or.inl rfl⟩
theorem vg_17_162 : vd_G "KnotLetters" 162 0 5 := ⟨_, TX1, 11, "KnotLetters", rfl, by decide, Or.inl q231, Or.inl rfl⟩
theorem vg_17_166 : vd_G "KnotLetters" 166 0 6 := ⟨_, TX1, 11, "KnotLetters", rfl, by decide, Or.inl q232, Or.inl rfl⟩
theorem vp_17_162 (mn : String) : vd_P "KnotLetters" mn 162 0 5 := ⟨_, TX1, 11, "KnotLetters", rfl, by decide, Or.inl q231, Or.inl rfl, Or.inl rfl⟩
theorem vp_17_166 (mn : String) : vd_P "KnotLetters" mn 166 0 6 := ⟨_, TX1, 11, "KnotLetters", rfl, by decide, Or.inl q232, Or.inl rfl, Or.inl rfl⟩
theorem vg_17_169 : vd_G "KnotLetters" 169 1 0 := ⟨_, TX2, 5, "KnotLetters$Feel", rfl, by decide, Or.inr ⟨_, q114⟩, Or.inl rfl⟩
theorem vg_17_173 : vd_G "KnotLetters" 173 1 1 := ⟨_, TX2, 5, "KnotLetters$Feel", rfl, by decide, Or.inr ⟨_, q116⟩, Or.inl rfl⟩
theorem vp_17_173 (mn : String) : vd_P "KnotLetters" mn 173 1 1 := ⟨_, TX2, 5, "KnotLetters$Feel", rfl, by decide, Or.inr ⟨_, q116⟩, Or.inl rfl, Or.inl rfl⟩
theorem vp_17_176 (mn : String) : vd_P "KnotLetters" mn 176 1 2 := ⟨_, TX2, 5, "KnotLetters$Feel", rfl, by decide, Or.inr ⟨_, q118⟩, Or.inl rfl, Or.inl rfl⟩
theorem vg_17_42 : vd_G "KnotLetters" 42 0 3 := ⟨_, TX1, 11, "KnotLetters", rfl, by decide, Or.inl q229, Or.inl rfl⟩
theorem vp_17_185 (mn : String) : vd_P "KnotLetters" mn 185 0 4 := ⟨_, TX1, 11, "KnotLetters", rfl, by decide, Or.inl q230, Or.inl rfl, Or.inl rfl⟩
theorem vg_17_210 : vd_G "KnotLetters" 210 2 2 := ⟨_, TX3, 3, "KnotLetters$Letter", rfl, by decide, Or.inr ⟨_, q218⟩, Or.inl rfl⟩
theorem vp_17_210 (mn : String) : vd_P "KnotLetters" mn 210 2 2 := ⟨_, TX3, 3, "KnotLetters$Letter", rfl, by decide, Or.inr ⟨_, q218⟩, Or.inl rfl, Or.inl rfl⟩
theorem vp_17_217 (mn : String) : vd_P "KnotLetters" mn 217 0 7 := ⟨_, TX1, 11, "KnotLetters", rfl, by decide, Or.inl q233, Or.inl rfl, Or.inl rfl⟩
theorem vp_17_218 (mn : String) : vd_P "KnotLetters" mn 218 4 2 := ⟨_, TX6, 3, "KnotLetters$Cord", rfl, by decide, Or.inr ⟨_, q1917⟩, Or.inl rfl, Or.inl rfl⟩
theorem vp_17_221 (mn : String) : vd_P "KnotLetters" mn 221 0 9 := ⟨_, TX1, 11, "KnotLetters", rfl, by decide, Or.inl q235, Or.inl rfl, Or.inl rfl⟩
theorem vp_17_222 (mn : String) : vd_P "KnotLetters" mn 222 4 1 := ⟨_, TX6, 3, "KnotLetters$Cord", rfl, by decide, Or.inr ⟨_, q1916⟩, Or.inl rfl, Or.inl rfl⟩
theorem vp_17_225 (mn : String) : vd_P "KnotLetters" mn 225 0 8 := ⟨_, TX1, 11, "KnotLetters", rfl, by decide, Or.inl q234, Or.inl rfl, Or.inl rfl⟩
theorem vp_18_9i : vd_P "KnotLettersModel" "<init>" 9 7 1 := ⟨_, TX5, 23, "KnotLettersModel", rfl, by decide, Or.inl q2073, Or.inl rfl, Or.inr ⟨rfl, rfl, rfl, q2073⟩⟩
theorem vp_18_13i : vd_P "KnotLettersModel" "<init>" 13 7 2 := ⟨_, TX5, 23, "KnotLettersModel", rfl, by decide, Or.inl q2074, Or.inl rfl, Or.inr ⟨rfl, rfl, rfl, q2074⟩⟩
theorem vp_18_16i : vd_P "KnotLettersModel" "<init>" 16 7 6 := ⟨_, TX5, 23, "KnotLettersModel", rfl, by decide, Or.inl q2078, Or.inl rfl, Or.inr ⟨rfl, rfl, rfl, q2078⟩⟩
theorem vp_18_19 (mn : String) : vd_P "KnotLettersModel" mn 19 7 7 := ⟨_, TX5, 23, "KnotLettersModel", rfl, by decide, Or.inl q2079, Or.inl rfl, Or.inl rfl⟩
theorem vp_18_23 (mn : String) : vd_P "KnotLettersModel" mn 23 7 8 := ⟨_, TX5, 23, "KnotLettersModel", rfl, by decide, Or.inl q2080, Or.inl rfl, Or.inl rfl⟩
theorem vp_18_26i : vd_P "KnotLettersModel" "<init>" 26 7 10 := ⟨_, TX5, 23, "KnotLettersModel", rfl, by decide, Or.inl q2082, Or.inl rfl, Or.inr ⟨rfl, rfl, rfl, q2082⟩⟩
theorem vp_18_29i : vd_P "KnotLettersModel" "<init>" 29 7 11 := ⟨_, TX5, 23, "KnotLettersModel", rfl, by decide, Or.inl q2083, Or.inl rfl, Or.inr ⟨rfl, rfl, rfl, q2083⟩⟩
theorem vp_18_32i : vd_P "KnotLettersModel" "<init>" 32 7 12 := ⟨_, TX5, 23, "KnotLettersModel", rfl, by decide, Or.inl q2084, Or.inl rfl, Or.inr ⟨rfl, rfl, rfl, q2084⟩⟩
theorem vp_18_35i : vd_P "KnotLettersModel" "<init>" 35 7 13 := ⟨_, TX5, 23, "KnotLettersModel", rfl, by decide, Or.inl q2085, Or.inl rfl, Or.inr ⟨rfl, rfl, rfl, q2085⟩⟩
theorem vp_18_38i : vd_P "KnotLettersModel" "<init>" 38 7 14 := ⟨_, TX5, 23, "KnotLettersModel", rfl, by decide, Or.inl q2086, Or.inl rfl, Or.inr ⟨rfl, rfl, rfl, q2086⟩⟩
theorem vp_18_41i : vd_P "KnotLettersModel" "<init>" 41 7 16 := ⟨_, TX5, 23, "KnotLettersModel", rfl, by decide, Or.inl q2088, Or.inl rfl, Or.inr ⟨rfl, rfl, rfl, q2088⟩⟩
theorem vp_18_44i : vd_P "KnotLettersModel" "<init>" 44 7 18 := ⟨_, TX5, 23, "KnotLettersModel", rfl, by decide, Or.inl q2090, Or.inl rfl, Or.inr ⟨rfl, rfl, rfl, q2090⟩⟩
theorem vp_18_47i : vd_P "KnotLettersModel" "<init>" 47 7 19 := ⟨_, TX5, 23, "KnotLettersModel", rfl, by decide, Or.inl q2091, Or.inl rfl, Or.inr ⟨rfl, rfl, rfl, q2091⟩⟩
theorem vp_18_50i : vd_P "KnotLettersModel" "<init>" 50 7 20 := ⟨_, TX5, 23, "KnotLettersModel", rfl, by decide, Or.inl q2092, Or.inl rfl, Or.inr ⟨rfl, rfl, rfl, q2092⟩⟩
theorem vp_18_53i : vd_P "KnotLettersModel" "<init>" 53 7 21 := ⟨_, TX5, 23, "KnotLettersModel", rfl, by decide, Or.inl q2093, Or.inl rfl, Or.inr ⟨rfl, rfl, rfl, q2093⟩⟩
theorem vp_18_56i : vd_P "KnotLettersModel" "<init>" 56 7 22 := ⟨_, TX5, 23, "KnotLettersModel", rfl, by decide, Or.inl q2094, Or.inl rfl, Or.inr ⟨rfl, rfl, rfl, q2094⟩⟩
theorem vg_18_16 : vd_G "KnotLettersModel" 16 7 6 := ⟨_, TX5, 23, "KnotLettersModel", rfl, by decide, Or.inl q2078, Or.inl rfl⟩
theorem vg_18_59 : vd_G "KnotLettersModel" 59 7 0 := ⟨_, TX5, 23, "KnotLettersModel", rfl, by decide, Or.inl q2072, Or.inl rfl⟩
theorem vp_18_59 (mn : String) : vd_P "KnotLettersModel" mn 59 7 0 := ⟨_, TX5, 23, "KnotLettersModel", rfl, by decide, Or.inl q2072, Or.inl rfl, Or.inl rfl⟩
theorem vg_18_9 : vd_G "KnotLettersModel" 9 7 1 := ⟨_, TX5, 23, "KnotLettersModel", rfl, by decide, Or.inl q2073, Or.inl rfl⟩
theorem vg_18_13 : vd_G "KnotLettersModel" 13 7 2 := ⟨_, TX5, 23, "KnotLettersModel", rfl, by decide, Or.inl q2074, Or.inl rfl⟩
theorem vg_18_19 : vd_G "KnotLettersModel" 19 7 7 := ⟨_, TX5, 23, "KnotLettersModel", rfl, by decide, Or.inl q2079, Or.inl rfl⟩
theorem vg_18_23 : vd_G "KnotLettersModel" 23 7 8 := ⟨_, TX5, 23, "KnotLettersModel", rfl, by decide, Or.inl q2080, Or.inl rfl⟩
theorem vg_18_101 : vd_G "KnotLettersModel" 101 7 3 := ⟨_, TX5, 23, "KnotLettersModel", rfl, by decide, Or.inl q2075, Or.inl rfl⟩
theorem vg_18_104 : vd_G "KnotLettersModel" 104 7 4 := ⟨_, TX5, 23, "KnotLettersModel", rfl, by decide, Or.inl q2076, Or.inl rfl⟩
theorem vp_18_101 (mn : String) : vd_P "KnotLettersModel" mn 101 7 3 := ⟨_, TX5, 23, "KnotLettersModel", rfl, by decide, Or.inl q2075, Or.inl rfl, Or.inl rfl⟩
theorem vp_18_104 (mn : String) : vd_P "KnotLettersModel" mn 104 7 4 := ⟨_, TX5, 23, "KnotLettersModel", rfl, by decide, Or.inl q2076, Or.inl rfl, Or.inl rfl⟩
theorem vg_18_107 : vd_G "KnotLettersModel" 107 7 15 := ⟨_, TX5, 23, "KnotLettersModel", rfl, by decide, Or.inl q2087, Or.inl rfl⟩
theorem vg_18_38 : vd_G "KnotLettersModel" 38 7 14 := ⟨_, TX5, 23, "KnotLettersModel", rfl, by decide, Or.inl q2086, Or.inl rfl⟩
theorem vp_18_107 (mn : String) : vd_P "KnotLettersModel" mn 107 7 15 := ⟨_, TX5, 23, "KnotLettersModel", rfl, by decide, Or.inl q2087, Or.inl rfl, Or.inl rfl⟩
theorem vg_18_113 : vd_G "KnotLettersModel" 113 7 9 := ⟨_, TX5, 23, "KnotLettersModel", rfl, by decide, Or.inl q2081, Or.inl rfl⟩
theorem vp_18_113 (mn : String) : vd_P "KnotLettersModel" mn 113 7 9 := ⟨_, TX5, 23, "KnotLettersModel", rfl, by decide, Or.inl q2081, Or.inl rfl, Or.inl rfl⟩
theorem vg_18_29 : vd_G "KnotLettersModel" 29 7 11 := ⟨_, TX5, 23, "KnotLettersModel", rfl, by decide, Or.inl q2083, Or.inl rfl⟩
theorem vg_18_26 : vd_G "KnotLettersModel" 26 7 10 := ⟨_, TX5, 23, "KnotLettersModel", rfl, by decide, Or.inl q2082, Or.inl rfl⟩
theorem vg_18_123 : vd_G "KnotLettersModel" 123 7 5 := ⟨_, TX5, 23, "KnotLettersModel", rfl, by decide, Or.inl q2077, Or.inl rfl⟩
theorem vp_18_123 (mn : String) : vd_P "KnotLettersModel" mn 123 7 5 := ⟨_, TX5, 23, "KnotLettersModel", rfl, by decide, Or.inl q2077, Or.inl rfl, Or.inl rfl⟩
theorem vg_18_35 : vd_G "KnotLettersModel" 35 7 13 := ⟨_, TX5, 23, "KnotLettersModel", rfl, by decide, Or.inl q2085, Or.inl rfl⟩
theorem vg_18_32 : vd_G "KnotLettersModel" 32 7 12 := ⟨_, TX5, 23, "KnotLettersModel", rfl, by decide, Or.inl q2084, Or.inl rfl⟩
theorem vg_18_44 : vd_G "KnotLettersModel" 44 7 18 := ⟨_, TX5, 23, "KnotLettersModel", rfl, by decide, Or.inl q2090, Or.inl rfl⟩
theorem vg_18_47 : vd_G "KnotLettersModel" 47 7 19 := ⟨_, TX5, 23, "KnotLettersModel", rfl, by decide, Or.inl q2091, Or.inl rfl⟩
theorem vg_18_56 : vd_G "KnotLettersModel" 56 7 22 := ⟨_, TX5, 23, "KnotLettersModel", rfl, by decide, Or.inl q2094, Or.inl rfl⟩
theorem vg_18_50 : vd_G "KnotLettersModel" 50 7 20 := ⟨_, TX5, 23, "KnotLettersModel", rfl, by decide, Or.inl q2092, Or.inl rfl⟩
theorem vg_18_53 : vd_G "KnotLettersModel" 53 7 21 := ⟨_, TX5, 23, "KnotLettersModel", rfl, by decide, Or.inl q2093, Or.inl rfl⟩
theorem vg_18_41 : vd_G "KnotLettersModel" 41 7 16 := ⟨_, TX5, 23, "KnotLettersModel", rfl, by decide, Or.inl q2088, Or.inl rfl⟩
theorem vg_18_154 : vd_G "KnotLettersModel" 154 7 17 := ⟨_, TX5, 23, "KnotLettersModel", rfl, by decide, Or.inl q2089, Or.inl rfl⟩
theorem vp_18_154 (mn : String) : vd_P "KnotLettersModel" mn 154 7 17 := ⟨_, TX5, 23, "KnotLettersModel", rfl, by decide, Or.inl q2089, Or.inl rfl, Or.inl rfl⟩
theorem va0 {P : Nat → List (Nat × Nat) → Prop} {k b : Nat} {ks : List (Nat × Nat)} (h : P k ks) : ∀ k1 b1 ks1, (k, b) :: ks = (k1, b1) :: ks1 → P k1 ks1 := by
  intro k1 b1 ks1 e
  cases e
  exact h
