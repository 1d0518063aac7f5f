/-! the plain law: the twin sees, forgets -/
set_option maxRecDepth 100000
/-- one thing more is seen -/
def seU (S : seT) (t d : Nat) (v : Int32) : seT := (S.1 + 1, upN S.2.1 S.1 t, upN S.2.2.1 S.1 d, fun i => if i = S.1 then v else S.2.2.2 i)
theorem J_see_s {T : tw_T} {S : seT} {t d : Nat} {v : Int32} (J : sJ T S) (h8 : S.1 < 8) : ∃ T', ((stA T 28 24 ((nI 3) * (T.1 52)) (nI t)).bind fun T9 => (stA T9 28 24 (((nI 3) * (T9.1 52)) + (nI 1)) (nI d)).bind fun T10 => (stA T10 28 24 (((nI 3) * (T10.1 52)) + (nI 2)) v).bind fun T11 => (some (tw_F T11 52 ((T11.1 52) + (nI 1)))).bind fun T12 => some ((T12.1 52), T12)) = some (nI (S.1 + 1), T') ∧ sJ T' (seU S t d v) ∧ (∀ k, k ≠ 52 → T'.1 k = T.1 k) ∧ ∀ r, r ≠ 28 → T'.2.2 r = T.2.2 r := by
  obtain ⟨j1, j2⟩ := J
  obtain ⟨F, hF⟩ : ∃ F, F = upd (upd (upd (T.2.2 28) (3 * S.1) (nI t)) (3 * S.1 + 1) (nI d)) (3 * S.1 + 2) v := ⟨_, rfl⟩
  have s1 : stA T 28 24 (nI (3 * S.1)) (nI t) = some (tw_A T 28 (upd (T.2.2 28) (3 * S.1) (nI t))) := nI_st (by omega) (by omega)
  have s2 : stA (tw_A T 28 (upd (T.2.2 28) (3 * S.1) (nI t))) 28 24 (nI (3 * S.1 + 1)) (nI d) = some (tw_A (tw_A T 28 (upd (T.2.2 28) (3 * S.1) (nI t))) 28 (upd (upd (T.2.2 28) (3 * S.1) (nI t)) (3 * S.1 + 1) (nI d))) := by
    rw [nI_st (by omega) (by omega), A_s]
  obtain ⟨T2, hT2⟩ : ∃ T2, T2 = tw_A (tw_A T 28 (upd (T.2.2 28) (3 * S.1) (nI t))) 28 (upd (upd (T.2.2 28) (3 * S.1) (nI t)) (3 * S.1 + 1) (nI d)) := ⟨_, rfl⟩
  have s3 : stA T2 28 24 (nI (3 * S.1 + 2)) v = some (tw_A T2 28 F) := by
    rw [nI_st (by omega) (by omega), hF, hT2, A_s]
  have k2 : T2.1 = T.1 := by rw [hT2]; rfl
  have k1 : (tw_A T 28 (upd (T.2.2 28) (3 * S.1) (nI t))).1 52 = nI S.1 := j1
  have k3 : T2.1 52 = nI S.1 := (congrFun k2 52).trans j1
  have k4 : (tw_A T2 28 F).1 52 = nI S.1 := k3
  refine ⟨tw_F (tw_A T2 28 F) 52 (nI (S.1 + 1)), ?_, ⟨F_s, fun i hi => ?_⟩, fun k hk => (F_n hk).trans (congrFun k2 k), fun r hr => ?_⟩
  · rw [← hT2] at s2
    simp only [j1, pk_mul, s1, k1, nI_add, s2, k3, s3, k4, F_s, bdS]
  · have hi : i < S.1 + 1 := hi
    show (tw_A T2 28 F).2.2 28 (3 * i) = nI (upN S.2.1 S.1 t i) ∧ (tw_A T2 28 F).2.2 28 (3 * i + 1) = nI (upN S.2.2.1 S.1 d i) ∧ (tw_A T2 28 F).2.2 28 (3 * i + 2) = (if i = S.1 then v else S.2.2.2 i)
    rw [A_s, hF]
    unfold upN
    by_cases e : i = S.1
    · rw [if_pos e, if_pos e, if_pos e, e]
      refine ⟨?_, ?_, ?_⟩
      · rw [upd_n (by omega), upd_n (by omega), upd_s]
      · rw [upd_n (by omega), upd_s]
      · rw [upd_s]
    · obtain ⟨q1, q2, q3⟩ := j2 i (by omega)
      rw [if_neg e, if_neg e, if_neg e]
      refine ⟨?_, ?_, ?_⟩
      · rw [upd_n (by omega), upd_n (by omega), upd_n (by omega)]; exact q1
      · rw [upd_n (by omega), upd_n (by omega), upd_n (by omega)]; exact q2
      · rw [upd_n (by omega), upd_n (by omega), upd_n (by omega)]; exact q3
  · show (tw_A T2 28 F).2.2 r = _
    rw [A_n hr, hT2, A_n hr, A_n hr]
