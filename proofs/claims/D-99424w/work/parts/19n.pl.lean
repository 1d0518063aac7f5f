/-! the plain law: parts, both -/
set_option maxRecDepth 100000
section JP
variable {T : tw_T} {x : txT} {b d n m : Nat} {C : List Int32} {W : List Nat} {x2 : Int32}
theorem J_75p (h : jC T x b d C W) (h40 : ¬ isS x b 40) : J_operand_75 (J_operand_4 (n + 1)) x2 T = J_part T := by
  unfold J_operand_75 J_operand_95 J_operand_96 J_operand_117
  rw [h.gd, bdS, if_neg s1_ne, sg_0 h (by omega) h40, bdS, if_pos nI_0, if_pos nI_0]
  show B_operand_4 (J_operand_4 n) x2 (nI 0) T = _
  unfold B_operand_4 J_operand_120
  rw [if_pos nI_0]
  cases J_part T <;> rfl
theorem J_75o (h : jC T x b d C W) (h40 : isS x b 40) (hw : W.length < 940) : ∃ T1, J_operand_75 (J_operand_4 n) x2 T = ((J_deeper T1).bind fun r4 => J_operand_4 n (nI 1) (nI 1) r4) ∧ jC T1 x (nxT x b) d C (W ++ [14]) ∧ jE T T1 ∧ T1.2.2 19 = T.2.2 19 := by
  obtain ⟨T1, s1, j1, f1, t1⟩ := h.wait (by omega) 14
  obtain ⟨T2, s2, j2, f2, t2⟩ := j1.goes
  refine ⟨T2, ?_, j2, f1.tr f2, t2.trans t1⟩
  unfold J_operand_75 J_operand_96 J_operand_117
  rw [h.gd, bdS, if_neg s1_ne, sg_1 h (by omega) h40, bdS, if_neg s1_ne, if_neg s1_ne, s1, bdS, s2, bdS]
theorem J_dp1 (h : jC T x b d C W) (hd : d < 6) : ∃ T1, J_deeper T = some T1 ∧ jC T1 x b (d + 1) C W ∧ jE T T1 ∧ T1.2.2 19 = upd (T.2.2 19) (d + 1) (nI 0) := by
  obtain ⟨h1, h2, h3, h4, h5, h6, h7, h8⟩ := id h
  have j1 : jC (tw_F T 31 (nI (d + 1))) x b (d + 1) C W := ⟨h1.e (jE.F (by omega)), h2.F (by omega), (F_n (by omega)).trans h3, (F_n (by omega)).trans h4, h5, (F_n (by omega)).trans h6, h7, F_s⟩
  obtain ⟨T1, s1, j2, f2, t2⟩ := j1.test (by omega) (nI 0)
  refine ⟨T1, ?_, j2, (jE.F (by omega)).tr f2, t2⟩
  unfold J_deeper
  rw [h8, if_neg (nI_ge hd (by omega)), nI_add, bdS, s1, bdS]
theorem J_dp0 (h : jC T x b d C W) (hd : 6 ≤ d) (hd2 : d < 100) (hb : C.length + W.length < 1400) (hw : W.length ≤ 940) : ∃ T1 κ, (kiT x b = 2 ∨ kiT x b = 1 ∨ isS x b 40) ∧ κ = 2 ∧ J_deeper T = some T1 ∧ jX T1 κ b C.length W.length ∧ jE T T1 ∨ ¬ (kiT x b = 2 ∨ kiT x b = 1 ∨ isS x b 40) ∧ κ = 1 ∧ J_deeper T = some T1 ∧ jX T1 κ b C.length W.length ∧ jE T T1 := by
  have h4 : kiT x b ≤ 4 := ki_4'
  by_cases ht : kiT x b = 2 ∨ kiT x b = 1 ∨ isS x b 40
  · obtain ⟨T1, s1, x1, f1⟩ := h.wrong (κ := 2) (by omega) hb hw
    refine ⟨T1, 2, Or.inl ⟨ht, rfl, ?_, x1, f1⟩⟩
    have e56 : J_deeper_56 T = some T1 := by
      unfold J_deeper_56 J_deeper_61
      rw [s1, bdS]
    unfold J_deeper
    rw [h.2.2.2.2.2.2.2, if_pos (nI_le hd (by omega)), h.2.1.2.2.1]
    by_cases h2 : kiT x b = 2
    · rw [if_pos (by rw [h2])]; exact e56
    · rw [if_neg (fun z => h2 ((nI_eq (by omega) (by omega)).mp z))]
      by_cases h1 : kiT x b = 1
      · rw [if_pos (by rw [h1])]; exact e56
      · rw [if_neg (fun z => h1 ((nI_eq (by omega) (by omega)).mp z))]
        have h40 : isS x b 40 := by
          rcases ht with z | z | z
          · exact absurd z h2
          · exact absurd z h1
          · exact z
        rw [sg_1 h (by omega) h40, bdS, if_neg s1_ne]
        exact e56
  · obtain ⟨T1, s1, x1, f1⟩ := h.wrong (κ := 1) (by omega) hb hw
    refine ⟨T1, 1, Or.inr ⟨ht, rfl, ?_, x1, f1⟩⟩
    unfold J_deeper J_deeper_61
    rw [h.2.2.2.2.2.2.2, if_pos (nI_le hd (by omega)), h.2.1.2.2.1, if_neg (fun z => ht (Or.inl ((nI_eq (by omega) (by omega)).mp z))), if_neg (fun z => ht (Or.inr (Or.inl ((nI_eq (by omega) (by omega)).mp z)))), sg_0 h (by omega) (fun z => ht (Or.inr (Or.inr z))), bdS, if_pos nI_0, s1, bdS]
theorem jC.p90 (h : jC T x b d C W) : ∃ T', J_part_90 T = some T' ∧ jC T' x (nxT x b) d C W ∧ jE T T' ∧ T'.2.2 19 = T.2.2 19 := by
  obtain ⟨T1, s1, j1, f1, t1⟩ := h.goes
  refine ⟨T1, ?_, j1, f1, t1⟩
  unfold J_part_90 J_part_101
  rw [h.gd, bdS, if_neg s1_ne, s1, bdS]
theorem jX.p90 {κ t w : Nat} (h : jX T κ b t w) : J_part_90 T = some T := by
  unfold J_part_90 J_part_101
  rw [h.gd, bdS, if_pos nI_0]
theorem J_pn1 (h : jC T x b d C W) (h2 : kiT x b = 2) (h4 : enT x b - b ≤ 4) (hC : C.length + 1 < 1400) : ∃ T', J_part T = some T' ∧ jC T' x (nxT x b) d (C ++ [nI 1, nI (vlT x b (enT x b - b))]) W ∧ jE T T' ∧ T'.2.2 19 = T.2.2 19 := by
  obtain ⟨T1, s1, j1, f1, t1⟩ := h.put (by omega) (nI 1)
  have e22 : T1.1 22 = nI (vlT x b (enT x b - b)) := by
    rw [j1.2.1.2.2.2.2.2.1, if_pos h2, Nat.min_eq_right h4]
  obtain ⟨T2, s2, j2, f2, t2⟩ := j1.put (by rw [List.length_append]; exact hC) (nI (vlT x b (enT x b - b)))
  obtain ⟨T3, s3, j3, f3, t3⟩ := j2.p90
  refine ⟨T3, ?_, by rw [List.append_assoc] at j3; exact j3, (f1.tr f2).tr f3, (t3.trans t2).trans t1⟩
  have he := en_b h.2.1.1
  have h700 := h.1.1
  unfold J_part J_part_29
  rw [h.gd, bdS, if_neg s1_ne, h.2.1.2.2.1, h2, if_pos rfl, h.2.1.2.2.2.2.1, if_pos (nI_le h4 (by omega)), s1, bdS, e22, s2, bdS, s3]
theorem J_pn0 (h : jC T x b d C W) (h2 : kiT x b = 2) (h4 : 4 < enT x b - b) (hC : C.length + W.length + 3 < 1400) (hw : W.length ≤ 940) : ∃ T', J_part T = some T' ∧ jX T' 2 b (C.length + 2) W.length ∧ jE T T' := by
  obtain ⟨T1, s1, x1, f1⟩ := h.wrong (κ := 2) (by omega) (by omega) hw
  obtain ⟨T2, s2, x2, f2⟩ := x1.put (by omega) (nI 1)
  obtain ⟨T3, s3, x3, f3⟩ := x2.put (by omega) (T2.1 22)
  refine ⟨T3, ?_, x3, (f1.tr f2).tr f3⟩
  have he := en_b h.2.1.1
  have h700 := h.1.1
  unfold J_part J_part_29
  rw [h.gd, bdS, if_neg s1_ne, h.2.1.2.2.1, h2, if_pos rfl, h.2.1.2.2.2.2.1, if_neg (nI_ge h4 (by omega)), s1, bdS, s2, bdS, s3, bdS, x3.p90]
theorem J_pw1 (h : jC T x b d C W) {k : Nat} (hk : k < 6) (hw : isW x b k) (hC : C.length + 1 < 1400) : ∃ T', J_part T = some T' ∧ jC T' x (nxT x b) d (C ++ [nI 2, nI k]) W ∧ jE T T' ∧ T'.2.2 19 = T.2.2 19 := by
  obtain ⟨T1, s1, j1, f1, t1⟩ := h.put (by omega) (nI 2)
  obtain ⟨T2, s2, j2, f2, t2⟩ := j1.put (by rw [List.length_append]; exact hC) (nI k)
  obtain ⟨T3, s3, j3, f3, t3⟩ := j2.p90
  refine ⟨T3, ?_, by rw [List.append_assoc] at j3; exact j3, (f1.tr f2).tr f3, (t3.trans t2).trans t1⟩
  unfold J_part J_part_72
  rw [h.gd, bdS, if_neg s1_ne, h.2.1.2.2.1, hw.1, if_neg (show ¬ nI 1 = nI 2 by decide), if_pos rfl, kw_1 h (by omega) hw, bdS, if_neg (nI_pos (by omega)), if_pos (nI_le (by omega) (by omega)), s1, bdS, s2, bdS, s3]
theorem J_pw0 (h : jC T x b d C W) (h1 : kiT x b = 1) (hw : ∀ k, k < 6 → ¬ isW x b k) (hC : C.length + W.length + 3 < 1400) (hl : W.length ≤ 940) : ∃ T', J_part T = some T' ∧ jX T' 3 b (C.length + 2) W.length ∧ jE T T' := by
  obtain ⟨v, sv, -, hv⟩ := kw_0 h
  obtain ⟨T1, s1, x1, f1⟩ := h.wrong (κ := 3) (by omega) (by omega) hl
  obtain ⟨T2, s2, x2, f2⟩ := x1.put (by omega) (nI 2)
  obtain ⟨T3, s3, x3, f3⟩ := x2.put (by omega) v
  refine ⟨T3, ?_, x3, (f1.tr f2).tr f3⟩
  have e67 : J_part_67 v T = some T3 := by
    unfold J_part_67 J_part_72
    rw [s1, bdS, s2, bdS, s3, bdS, x3.p90]
  unfold J_part
  rw [h.gd, bdS, if_neg s1_ne, h.2.1.2.2.1, h1, if_neg (show ¬ nI 1 = nI 2 by decide), if_pos rfl, sv, bdS]
  rcases hv with ⟨j, j1, j2, e⟩ | ⟨-, e⟩
  · have hj : 6 ≤ j := by
      by_cases hj : j < 6
      · exact absurd j2 (hw j hj)
      · omega
    rw [if_neg (by rw [e]; exact nI_pos (by omega)), if_neg (by rw [e]; exact nI_ge (by omega) (by omega))]
    exact e67
  · rw [if_pos (by rw [e]; show (-1 : Int32) < 0; decide)]
    exact e67
theorem J_px (h : jC T x b d C W) (h1 : kiT x b ≠ 1) (h2 : kiT x b ≠ 2) (hC : C.length + W.length + 3 < 1400) (hl : W.length ≤ 940) : ∃ T', J_part T = some T' ∧ jX T' 1 b C.length W.length ∧ jE T T' := by
  obtain ⟨T1, s1, x1, f1⟩ := h.wrong (κ := 1) (by omega) (by omega) hl
  have h4 : kiT x b ≤ 4 := ki_4'
  refine ⟨T1, ?_, x1, f1⟩
  unfold J_part
  rw [h.gd, bdS, if_neg s1_ne, h.2.1.2.2.1, if_neg (fun z => h2 ((nI_eq (by omega) (by omega)).mp z)), if_neg (fun z => h1 ((nI_eq (by omega) (by omega)).mp z)), s1, bdS, x1.p90]
/-- where nothing goes on -/
theorem L_end (h : jC T x b d C W) (hd : d < 9) (hn : nof 1 x b T d) (hW : ∀ o ∈ W, o < 100) (hl : W.length ≤ 900) (hc : isS x b 41 → ∀ j, j < W.length → W.getD j 0 < 14) : J_expression_29 (m + 2) (nI 1) T = J_expression_325 T := by
  obtain ⟨n1, n2, n3, n4, n5⟩ := hn
  have m1 := n1 (by omega)
  have m2 := n2 (by omega)
  have m3 := n3 (by omega)
  have e320 : J_expression_320 (J_expression_29 (m + 1)) T = J_expression_325 T := by
    unfold J_expression_320 J_expression_322
    show B_expression_29 (J_expression_29 m) (nI 0) T = _
    unfold B_expression_29
    rw [if_pos nI_0]
  have e186 : J_expression_186 (J_expression_29 (m + 1)) (nI 1) T = J_expression_325 T := by
    unfold J_expression_186
    rw [sg_0 h (by omega) m2.1, bdS, if_pos nI_0, sg_0 h (by omega) m2.2, bdS, if_pos nI_0, sg_0 h (by omega) m1.1, bdS, if_pos nI_0, sg_0 h (by omega) m1.2, bdS, if_pos nI_0]
    by_cases h41 : isS x b 41
    · obtain ⟨v, sv, -, v0⟩ := J_opd h hW hl
      rw [sg_1 h (by omega) h41, bdS, if_neg s1_ne, sv, bdS, v0 (hc h41), if_pos nI_0]
      exact e320
    · rw [sg_0 h (by omega) h41, bdS, if_pos nI_0]
      exact e320
  by_cases h6 : isS x b 60 ∨ isS x b 61
  · rw [st_127 h h6]
    unfold J_expression_127
    have ht : T.2.2 19 d = nI 1 := by
      rcases m3 with z | z
      · rcases h6 with w | w
        · exact absurd w z.1
        · exact absurd w z.2
      · exact z
    rw [h.2.2.2.2.2.2.2, nI_rd hd (by omega), ht, bdS, if_neg s1_ne]
    exact e186
  · rw [st_186 h (n4 (by omega)) (n5 (by omega)) (fun z => h6 (Or.inl z)) (fun z => h6 (Or.inr z))]
    exact e186
theorem L_bad (h : jC T x b d C W) (hd : 2 ≤ d) (hd2 : d < 9) (hb : C.length + W.length + 1 < 1400) (hw : W.length ≤ 940) : jEnd T 1 b (J_expression_325 T) := by
  obtain ⟨T1, s1, x1, f1⟩ := h.wrong (κ := 1) (by omega) (by omega) hw
  have e : J_expression_325 T = J_expression_345 T1 := by
    unfold J_expression_325
    rw [h.gd, bdS, if_neg s1_ne, h.2.2.2.2.2.2.2, if_neg (nI_ge hd (by omega)), s1, bdS]
  rw [e]
  exact (x1.x345 hb).tr f1
end JP
