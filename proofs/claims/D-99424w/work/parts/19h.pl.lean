/-! the plain law: what is reckoned from codes -/
set_option maxRecDepth 100000
/-- codes that leave one number more on the pile -/
def cdE (C : List Int32) (ev : (Nat → Int32) → Int32) : Prop := 2 ≤ C.length ∧ ∀ (T : tw_T) (k m n : Nat), (∀ i, i < C.length → T.2.2 7 (k + i) = C.getD i 0) → k + C.length ≤ 1400 → 2 * m + C.length ≤ 1890 → C.length < n → ∃ f n', J_reckons_4 n (nI m) (nI k) T = J_reckons_4 n' (nI (m + 1)) (nI (k + C.length)) (tw_A T 23 f) ∧ n ≤ n' + C.length ∧ f m = ev (T.2.2 22) ∧ ∀ i, i < m → f i = T.2.2 23 i
/-- a sign's code -/
def opc (s : Nat) : Nat := if s = 38 then 4 else if s = 124 then 5 else if s = 60 then 6 else if s = 61 then 7 else if s = 43 then 8 else if s = 45 then 9 else if s = 42 then 10 else 11
section CD
variable {C C1 C2 : List Int32} {ev e1 e2 : (Nat → Int32) → Int32}
theorem gd_l {i : Nat} (h : i < C1.length) : (C1 ++ C2).getD i 0 = C1.getD i 0 := by
  rw [List.getD_eq_getElem?_getD, List.getD_eq_getElem?_getD, List.getElem?_append_left h]
theorem gd_r {i : Nat} : (C1 ++ C2).getD (C1.length + i) 0 = C2.getD i 0 := by
  rw [List.getD_eq_getElem?_getD, List.getD_eq_getElem?_getD, List.getElem?_append_right (by omega), Nat.add_sub_cancel_left]
theorem A_A {T : tw_T} {j : Nat} {f f' : Nat → Int32} : tw_A (tw_A T j f) j f' = tw_A T j f' := by
  unfold tw_A
  dsimp only
  congr 2
  funext q
  by_cases h : q = j
  · rw [if_pos h, if_pos h]
  · rw [if_neg h, if_neg h, if_neg h]
theorem wk_e {s : Nat} (hs : sgn s) (a b : Int32) : J_works (nI (opc s)) a b = some (byV s a b) := by
  rcases hs with rfl | rfl | rfl | rfl | rfl | rfl | rfl | rfl
  · show J_works (nI 4) a b = some (if a = 0 then nI 0 else if b = 0 then nI 0 else nI 1)
    unfold J_works J_works_56 J_works_57
    rw [if_pos rfl]
    split
    · rfl
    · split <;> rfl
  · show J_works (nI 10) a b = some (a * b)
    unfold J_works
    repeat rw [if_neg (by decide)]
    rw [if_pos rfl]
  · show J_works (nI 8) a b = some (a + b)
    unfold J_works
    repeat rw [if_neg (by decide)]
    rw [if_pos rfl]
  · show J_works (nI 9) a b = some (a - b)
    unfold J_works
    repeat rw [if_neg (by decide)]
    rw [if_pos rfl]
  · show J_works (nI 11) a b = some (if b = 0 then nI 0 else a / b)
    unfold J_works J_works_117
    repeat rw [if_neg (by decide)]
    by_cases h : b = 0
    · rw [if_pos h, if_pos h]
    · rw [if_neg h, if_neg h]
      unfold dvI
      rw [if_neg h]
      rfl
  · show J_works (nI 6) a b = some (if b ≤ a then nI 0 else nI 1)
    unfold J_works J_works_82
    repeat rw [if_neg (by decide)]
    rw [if_pos rfl]
    split <;> rfl
  · show J_works (nI 7) a b = some (if a = b then nI 1 else nI 0)
    unfold J_works J_works_93
    repeat rw [if_neg (by decide)]
    rw [if_pos rfl]
    split <;> rfl
  · show J_works (nI 5) a b = some (if a = 0 then (if b = 0 then nI 0 else nI 1) else nI 1)
    unfold J_works J_works_66 J_works_71
    repeat rw [if_neg (by decide)]
    rw [if_pos rfl]
    split
    · split <;> rfl
    · rfl
theorem opc_b {s : Nat} (hs : sgn s) : 4 ≤ opc s ∧ opc s ≤ 11 := by
  unfold sgn at hs
  unfold opc
  rcases hs with rfl | rfl | rfl | rfl | rfl | rfl | rfl | rfl <;> decide
theorem cd_num {v : Int32} : cdE [nI 1, v] (fun _ => v) := by
  refine ⟨Nat.le_refl _, fun T k m n h hk hm hn => ?_⟩
  have hk : k + 2 ≤ 1400 := hk
  have hm : 2 * m + 2 ≤ 1890 := hm
  obtain ⟨n, rfl⟩ : ∃ w, n = w + 1 := ⟨n - 1, by omega⟩
  have h0 : T.2.2 7 k = nI 1 := h 0 (by show 0 < 2; omega)
  have h1 : T.2.2 7 (k + 1) = v := h 1 (by show 1 < 2; omega)
  refine ⟨upd (T.2.2 23) m v, n, ?_, by show n + 1 ≤ n + 2; omega, upd_s, fun i hi => upd_n (by omega)⟩
  show B_reckons_4 (J_reckons_4 n) (nI m) (nI k) T = _
  unfold B_reckons_4
  rw [nI_rd (by omega) (by omega), h0, bdS, if_neg (by decide), bdS, if_pos rfl]
  unfold J_reckons_36 J_reckons_67 J_reckons_140
  rw [if_pos rfl, nI_add, nI_rd (by omega) (by omega), h1, bdS, nI_st (by omega) (by omega), bdS, nI_add, nI_add]
  rfl
theorem cd_val {q : Nat} (hq : q < 6) : cdE [nI 2, nI q] (fun u => u q) := by
  refine ⟨Nat.le_refl _, fun T k m n h hk hm hn => ?_⟩
  have hk : k + 2 ≤ 1400 := hk
  have hm : 2 * m + 2 ≤ 1890 := hm
  obtain ⟨n, rfl⟩ : ∃ w, n = w + 1 := ⟨n - 1, by omega⟩
  have h0 : T.2.2 7 k = nI 2 := h 0 (by show 0 < 2; omega)
  have h1 : T.2.2 7 (k + 1) = nI q := h 1 (by show 1 < 2; omega)
  refine ⟨upd (T.2.2 23) m (T.2.2 22 q), n, ?_, by show n + 1 ≤ n + 2; omega, upd_s, fun i hi => upd_n (by omega)⟩
  show B_reckons_4 (J_reckons_4 n) (nI m) (nI k) T = _
  unfold B_reckons_4
  rw [nI_rd (by omega) (by omega), h0, bdS, if_neg (by decide), bdS, if_neg (by decide), if_pos rfl]
  unfold J_reckons_36 J_reckons_67 J_reckons_140
  rw [if_neg (by decide), nI_add, nI_rd (by omega) (by omega), h1, bdS, nI_rd hq (by omega), bdS, nI_st (by omega) (by omega), bdS, nI_add, nI_add]
  rfl
theorem cd_not (H : cdE C ev) : cdE (C ++ [nI 3]) (fun u => if ev u = 0 then nI 1 else nI 0) := by
  obtain ⟨hl, H⟩ := H
  have hlen : (C ++ [nI 3]).length = C.length + 1 := by rw [List.length_append]; rfl
  refine ⟨by omega, fun T k m n h hk hm hn => ?_⟩
  rw [hlen] at hk hm hn h
  obtain ⟨f, n1, s1, q1, q2, q3⟩ := H T k m n (fun i hi => by rw [h i (by omega), gd_l hi]) (by omega) (by omega) (by omega)
  obtain ⟨n1, rfl⟩ : ∃ w, n1 = w + 1 := ⟨n1 - 1, by omega⟩
  have h3 : T.2.2 7 (k + C.length) = nI 3 := by
    rw [h C.length (by omega)]
    exact gd_r (C1 := C) (C2 := [nI 3]) (i := 0)
  have h3' : (tw_A T 23 f).2.2 7 (k + C.length) = nI 3 := by rw [A_n (by omega)]; exact h3
  refine ⟨upd f m (if ev (T.2.2 22) = 0 then nI 1 else nI 0), n1, ?_, by rw [hlen]; omega, upd_s, fun i hi => by rw [upd_n (by omega)]; exact q3 i hi⟩
  rw [s1, hlen]
  show B_reckons_4 (J_reckons_4 n1) (nI (m + 1)) (nI (k + C.length)) (tw_A T 23 f) = _
  unfold B_reckons_4
  rw [nI_rd (by omega) (by omega), h3', bdS, if_neg (by decide), bdS, if_neg (by decide), if_neg (by decide), if_pos rfl, nI_1m, nI_rd (by omega) (by omega), A_s, q2, bdS, nI_add]
  have fin : ∀ v, J_reckons_106 (J_reckons_4 n1) (nI m) v (nI (m + 1)) (nI (k + C.length + 1)) (tw_A T 23 f) = J_reckons_4 n1 (nI (m + 1)) (nI (k + (C.length + 1))) (tw_A T 23 (upd f m v)) := fun v => by
    unfold J_reckons_106 J_reckons_140
    rw [nI_st (by omega) (by omega), bdS, A_s, A_A]
    rfl
  by_cases e : ev (T.2.2 22) = 0
  · rw [if_pos e, if_pos e]; exact fin _
  · rw [if_neg e, if_neg e]; exact fin _
theorem cd_bin {s : Nat} (H1 : cdE C1 e1) (H2 : cdE C2 e2) (hs : sgn s) : cdE (C1 ++ C2 ++ [nI (opc s)]) (fun u => byV s (e1 u) (e2 u)) := by
  obtain ⟨hl1, H1⟩ := H1
  obtain ⟨hl2, H2⟩ := H2
  have hop := opc_b hs
  have hlen : (C1 ++ C2 ++ [nI (opc s)]).length = C1.length + C2.length + 1 := by rw [List.length_append, List.length_append]; rfl
  refine ⟨by omega, fun T k m n h hk hm hn => ?_⟩
  rw [hlen] at hk hm hn h
  obtain ⟨f, n1, s1, q1, q2, q3⟩ := H1 T k m n (fun i hi => by rw [h i (by omega), List.append_assoc, gd_l hi]) (by omega) (by omega) (by omega)
  obtain ⟨f2, n2, s2, r1, r2, r3⟩ := H2 (tw_A T 23 f) (k + C1.length) (m + 1) n1 (fun i hi => by
    rw [A_n (by omega), Nat.add_assoc, h (C1.length + i) (by omega), List.append_assoc, gd_r, gd_l hi]) (by omega) (by omega) (by omega)
  obtain ⟨n2, rfl⟩ : ∃ w, n2 = w + 1 := ⟨n2 - 1, by omega⟩
  rw [A_A] at s2
  have h3 : (tw_A T 23 f2).2.2 7 (k + C1.length + C2.length) = nI (opc s) := by
    rw [A_n (by omega), show k + C1.length + C2.length = k + ((C1 ++ C2).length + 0) by rw [List.length_append]; omega, h _ (by rw [List.length_append]; omega)]
    exact gd_r (C1 := C1 ++ C2) (C2 := [nI (opc s)]) (i := 0)
  have r22 : (tw_A T 23 f).2.2 22 = T.2.2 22 := A_n (by omega)
  rw [r22] at r2
  have p1 : f2 m = e1 (T.2.2 22) := by rw [r3 m (by omega), A_s, q2]
  refine ⟨upd f2 m (byV s (e1 (T.2.2 22)) (e2 (T.2.2 22))), n2, ?_, by rw [hlen]; omega, upd_s, fun i hi => by rw [upd_n (by omega), r3 i (by omega), A_s, q3 i hi]⟩
  rw [s1, s2, hlen]
  show B_reckons_4 (J_reckons_4 n2) (nI (m + 1 + 1)) (nI (k + C1.length + C2.length)) (tw_A T 23 f2) = _
  unfold B_reckons_4
  have m1 : nI (m + 1 + 1) + (-1) = nI (m + 1) := pk_m1 (m + 1)
  have ne : ∀ j : Nat, j < 4 → ¬ nI (opc s) = nI j := fun j hj => nI_nn (by omega) (by omega) (by omega)
  rw [nI_rd (by omega) (by omega), h3, bdS, if_neg (nI_ne0 (by omega) (by omega)), bdS, if_neg (ne 1 (by omega)), if_neg (ne 2 (by omega)), if_neg (ne 3 (by omega)), m1, nI_1m, nI_rd (by omega) (by omega), A_s, p1, bdS, nI_rd (by omega) (by omega), r2, bdS, wk_e hs, bdS, nI_st (by omega) (by omega), bdS, A_s, A_A, nI_add, show k + (C1.length + C2.length + 1) = k + C1.length + C2.length + 1 by omega]
  rfl
/-- all of it -/
theorem J_rk (H : cdE C ev) {T : tw_T} (h : ∀ i, i < C.length → T.2.2 7 i = C.getD i 0) (h0 : T.2.2 7 C.length = nI 0) (hk : C.length < 1400) : ∃ f, J_reckons (nI 0) T = some (ev (T.2.2 22), tw_A T 23 f) := by
  obtain ⟨hl, H⟩ := H
  obtain ⟨f, n1, s1, q1, q2, q3⟩ := H T 0 0 NN (fun i hi => by rw [Nat.zero_add]; exact h i hi) (by omega) (by omega) (by unfold NN; omega)
  obtain ⟨n1, rfl⟩ : ∃ w, n1 = w + 1 := ⟨n1 - 1, by unfold NN at q1; omega⟩
  refine ⟨f, ?_⟩
  unfold J_reckons
  rw [s1, show 0 + C.length = C.length by omega]
  show B_reckons_4 (J_reckons_4 n1) (nI (0 + 1)) (nI C.length) (tw_A T 23 f) = _
  unfold B_reckons_4
  have h0' : (tw_A T 23 f).2.2 7 C.length = nI 0 := by rw [A_n (by omega)]; exact h0
  rw [nI_rd (by omega) (by omega), h0', bdS, if_pos nI_0, nI_rd (by omega) (by omega), A_s, q2]
  rfl
end CD
