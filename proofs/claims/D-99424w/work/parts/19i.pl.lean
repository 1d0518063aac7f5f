/-! the plain law: the twin reads an expression: its state -/
set_option maxRecDepth 100000
/-- strength of what waits -/
def stq (o : Nat) : Nat := if o = 5 then 1 else if o = 4 then 2 else if o = 3 then 3 else if o = 6 then 4 else if o = 7 then 4 else if o = 8 then 5 else if o = 9 then 5 else 6
/-- only the expression's things have changed -/
def jE (T T' : tw_T) : Prop := (∀ k, ¬ ((14 ≤ k ∧ k ≤ 15) ∨ (18 ≤ k ∧ k ≤ 23) ∨ (29 ≤ k ∧ k ≤ 31)) → T'.1 k = T.1 k) ∧ ∀ r, ¬ (17 ≤ r ∧ r ≤ 19) → T'.2.2 r = T.2.2 r
theorem jE.rf {T : tw_T} : jE T T := ⟨fun _ _ => rfl, fun _ _ => rfl⟩
theorem jE.tr {T T1 T2 : tw_T} (h1 : jE T T1) (h2 : jE T1 T2) : jE T T2 := ⟨fun k hk => (h2.1 k hk).trans (h1.1 k hk), fun r hr => (h2.2 r hr).trans (h1.2 r hr)⟩
theorem jE.F {T : tw_T} {k : Nat} {v : Int32} (h : (14 ≤ k ∧ k ≤ 15) ∨ (18 ≤ k ∧ k ≤ 23) ∨ (29 ≤ k ∧ k ≤ 31)) : jE T (tw_F T k v) := ⟨fun q hq => F_n (fun e => hq (by rw [e]; exact h)), fun _ _ => rfl⟩
theorem jE.A {T : tw_T} {r : Nat} {f : Nat → Int32} (h : 17 ≤ r ∧ r ≤ 19) : jE T (tw_A T r f) := ⟨fun _ _ => rfl, fun q hq => A_n (fun e => hq (by rw [e]; exact h))⟩
theorem jk.e {T T' : tw_T} (h : jk T T') : jE T T' := ⟨fun k hk => h.1 k (by omega), fun r _ => by rw [h.2]⟩
/-- at b, so deep, so many codes, what waits -/
def jC (T : tw_T) (x : txT) (b d : Nat) (C : List Int32) (W : List Nat) : Prop := txJ T x ∧ tkJ T x b ∧ T.1 14 = 0 ∧ T.1 29 = nI C.length ∧ (∀ i, i < C.length → T.2.2 17 i = C.getD i 0) ∧ T.1 30 = nI W.length ∧ (∀ i, i < W.length → T.2.2 18 i = nI (W.getD i 0)) ∧ T.1 31 = nI d
def bnd (C : List Int32) (W : List Nat) (b : Nat) : Prop := C.length + W.length + 8 ≤ 2 * b ∧ W.length ≤ b
section JE
variable {T : tw_T} {x : txT} {b d ℓ : Nat} {C : List Int32} {W W0 Q : List Nat}
theorem jC.gd (h : jC T x b d C W) : J_isGood T = some (nI 1, T) := by
  unfold J_isGood J_isGood_12
  rw [h.2.2.1, if_pos rfl, zr1]
  rfl
theorem gdn_l {i : Nat} {W1 W2 : List Nat} (h : i < W1.length) : (W1 ++ W2).getD i 0 = W1.getD i 0 := by
  rw [List.getD_eq_getElem?_getD, List.getD_eq_getElem?_getD, List.getElem?_append_left h]
theorem gdn_r {i : Nat} {W1 W2 : List Nat} : (W1 ++ W2).getD (W1.length + i) 0 = W2.getD i 0 := by
  rw [List.getD_eq_getElem?_getD, List.getD_eq_getElem?_getD, List.getElem?_append_right (by omega), Nat.add_sub_cancel_left]
theorem txJ.e {T' : tw_T} (h : txJ T x) (f : jE T T') : txJ T' x := ⟨h.1, h.2.1, fun q hq => by rw [f.2 8 (by omega)]; exact h.2.2.1 q hq, (f.1 17 (by omega)).trans h.2.2.2⟩
theorem tkJ.F {k : Nat} {v : Int32} (h : tkJ T x b) (hk : ¬ (18 ≤ k ∧ k ≤ 23)) : tkJ (tw_F T k v) x b := by
  obtain ⟨a1, a2, a3, a4, a5, a6, a7, a8⟩ := h
  exact ⟨a1, (F_n (by omega)).trans a2, (F_n (by omega)).trans a3, (F_n (by omega)).trans a4, (F_n (by omega)).trans a5, (F_n (by omega)).trans a6, (F_n (by omega)).trans a7, a8⟩
theorem jC.put (h : jC T x b d C W) (hC : C.length < 1400) (v : Int32) : ∃ T', J_puts v T = some T' ∧ jC T' x b d (C ++ [v]) W ∧ jE T T' ∧ T'.2.2 19 = T.2.2 19 := by
  obtain ⟨h1, h2, h3, h4, h5, h6, h7, h8⟩ := h
  have hl : (C ++ [v]).length = C.length + 1 := by rw [List.length_append]; rfl
  have f : jE T (tw_F (tw_A T 17 (upd (T.2.2 17) C.length v)) 29 (nI (C.length + 1))) := (jE.A (by omega)).tr (jE.F (by omega))
  refine ⟨tw_F (tw_A T 17 (upd (T.2.2 17) C.length v)) 29 (nI (C.length + 1)), ?_, ⟨h1.e f, ?_, ?_, by rw [hl]; exact F_s, fun i hi => ?_, (F_n (by omega)).trans h6, fun i hi => ?_, (F_n (by omega)).trans h8⟩, f, A_n (by omega)⟩
  · unfold J_puts
    rw [h4, nI_st hC (by omega), bdS]
    rw [show (tw_A T 17 (upd (T.2.2 17) C.length v)).1 29 = nI C.length from h4, nI_add, bdS]
  · exact tkJ.F (T := tw_A T 17 (upd (T.2.2 17) C.length v)) h2 (by omega)
  · exact (F_n (by omega)).trans h3
  · show (tw_A T 17 (upd (T.2.2 17) C.length v)).2.2 17 i = _
    rw [A_s]
    by_cases e : i = C.length
    · rw [e, upd_s]
      exact (gd_r (C1 := C) (C2 := [v]) (i := 0)).symm
    · rw [upd_n e, gd_l (by omega)]
      exact h5 i (by omega)
  · show (tw_A T 17 (upd (T.2.2 17) C.length v)).2.2 18 i = _
    rw [A_n (by omega)]
    exact h7 i hi
theorem jC.wait (h : jC T x b d C W) (hW : W.length < 950) (o : Nat) : ∃ T', J_waitsFor (nI o) T = some T' ∧ jC T' x b d C (W ++ [o]) ∧ jE T T' ∧ T'.2.2 19 = T.2.2 19 := by
  obtain ⟨h1, h2, h3, h4, h5, h6, h7, h8⟩ := h
  have hl : (W ++ [o]).length = W.length + 1 := by rw [List.length_append]; rfl
  have f : jE T (tw_F (tw_A T 18 (upd (T.2.2 18) W.length (nI o))) 30 (nI (W.length + 1))) := (jE.A (by omega)).tr (jE.F (by omega))
  refine ⟨tw_F (tw_A T 18 (upd (T.2.2 18) W.length (nI o))) 30 (nI (W.length + 1)), ?_, ⟨h1.e f, ?_, ?_, (F_n (by omega)).trans h4, fun i hi => ?_, by rw [hl]; exact F_s, fun i hi => ?_, (F_n (by omega)).trans h8⟩, f, A_n (by omega)⟩
  · unfold J_waitsFor
    rw [h6, nI_st hW (by omega), bdS]
    rw [show (tw_A T 18 (upd (T.2.2 18) W.length (nI o))).1 30 = nI W.length from h6, nI_add, bdS]
  · exact tkJ.F (T := tw_A T 18 (upd (T.2.2 18) W.length (nI o))) h2 (by omega)
  · exact (F_n (by omega)).trans h3
  · show (tw_A T 18 (upd (T.2.2 18) W.length (nI o))).2.2 17 i = _
    rw [A_n (by omega)]
    exact h5 i hi
  · show (tw_A T 18 (upd (T.2.2 18) W.length (nI o))).2.2 18 i = _
    rw [A_s]
    by_cases e : i = W.length
    · rw [e, upd_s]
      congr 1
      exact (gdn_r (W1 := W) (W2 := [o]) (i := 0)).symm
    · rw [upd_n e, gdn_l (by omega)]
      exact h7 i (by omega)
theorem jC.goes (h : jC T x b d C W) : ∃ T', J_goes T = some T' ∧ jC T' x (nxT x b) d C W ∧ jE T T' ∧ T'.2.2 19 = T.2.2 19 := by
  obtain ⟨h1, h2, h3, h4, h5, h6, h7, h8⟩ := h
  obtain ⟨T', s1, t1, f1⟩ := J_goes_e h1 h2
  refine ⟨T', s1, ⟨h1.k f1, t1, (f1.1 14 (by omega)).trans h3, (f1.1 29 (by omega)).trans h4, fun i hi => by rw [f1.2]; exact h5 i hi, (f1.1 30 (by omega)).trans h6, fun i hi => by rw [f1.2]; exact h7 i hi, (f1.1 31 (by omega)).trans h8⟩, f1.e, by rw [f1.2]⟩
/-- tested or not -/
theorem jC.test (h : jC T x b d C W) (hd : d < 9) (v : Int32) : ∃ T', stA T 19 9 (T.1 31) v = some T' ∧ jC T' x b d C W ∧ jE T T' ∧ T'.2.2 19 = upd (T.2.2 19) d v := by
  obtain ⟨h1, h2, h3, h4, h5, h6, h7, h8⟩ := h
  have f : jE T (tw_A T 19 (upd (T.2.2 19) d v)) := jE.A (by omega)
  refine ⟨tw_A T 19 (upd (T.2.2 19) d v), by rw [h8, nI_st hd (by omega)], ⟨h1.e f, h2, h3, h4, fun i hi => by rw [A_n (by omega)]; exact h5 i hi, h6, fun i hi => by rw [A_n (by omega)]; exact h7 i hi, h8⟩, f, A_s⟩
/-- nothing on top of it that is so strong -/
def low (ℓ : Nat) (W : List Nat) : Prop := ∀ W1 o, W = W1 ++ [o] → 14 ≤ o ∨ stq o < ℓ
def okQ (ℓ : Nat) (Q : List Nat) : Prop := ∀ o, o ∈ Q → (3 ≤ o ∧ o < 14) ∧ ℓ ≤ stq o
theorem stq_b {o : Nat} : 1 ≤ stq o ∧ stq o ≤ 6 := by
  unfold stq
  split
  · omega
  · split
    · omega
    · split
      · omega
      · split
        · omega
        · split
          · omega
          · split
            · omega
            · split <;> omega
theorem J_iso {o : Nat} (ho : o < 100) : J_isOpen (nI o) = some (if 14 ≤ o then nI 1 else nI 0) := by
  have : ∀ o, o < 100 → J_isOpen (nI o) = some (if 14 ≤ o then nI 1 else nI 0) := by decide +kernel
  exact this o ho
theorem J_stq {o : Nat} (ho : o < 100) : J_strength (nI o) = some (nI (stq o)) := by
  have : ∀ o, o < 100 → J_strength (nI o) = some (nI (stq o)) := by decide +kernel
  exact this o ho
theorem J_drL : ∀ (c n : Nat) (T : tw_T) (C : List Int32) (Q : List Nat), Q.length = c → jC T x b d C (W0 ++ Q) → okQ ℓ Q → low ℓ W0 → (∀ o ∈ W0, o < 100) → ℓ ≤ 10 → C.length + Q.length ≤ 1400 → (W0 ++ Q).length ≤ 940 → c < n → ∃ T', J_drops_0 n (nI ℓ) T = some T' ∧ jC T' x b d (C ++ Q.reverse.map nI) W0 ∧ jE T T' ∧ T'.2.2 19 = T.2.2 19 := by
  intro c
  induction c with
  | zero =>
    intro n T C Q hc h hQ hL hW hl hn1 hn2 hn
    obtain ⟨n, rfl⟩ : ∃ w, n = w + 1 := ⟨n - 1, by omega⟩
    have hQ0 : Q = [] := List.length_eq_zero_iff.mp hc
    subst hQ0
    rw [List.append_nil] at h hn2
    refine ⟨T, ?_, by simpa using h, jE.rf, rfl⟩
    obtain ⟨h1, h2, h3, h4, h5, h6, h7, h8⟩ := h
    show B_drops_0 (J_drops_0 n) (nI ℓ) T = _
    unfold B_drops_0 J_drops_68
    rcases List.eq_nil_or_concat W0 with e | ⟨W1, o, e⟩
    · rw [if_pos]
      rw [h6, e]
      decide
    · have e : W0 = W1 ++ [o] := by rw [e, List.concat_eq_append]
      have hlen : W0.length = W1.length + 1 := by rw [e, List.length_append]; rfl
      have ho : o < 100 := hW o (by rw [e]; simp)
      have hv : T.2.2 18 W1.length = nI o := by
        rw [h7 _ (by omega), e]
        congr 1
        exact gdn_r (W1 := W1) (W2 := [o]) (i := 0)
      rw [if_neg (by rw [h6, ti_le, ti_n (by omega), ti_0]; omega), h6, hlen, nI_1m, nI_rd (by omega) (by omega), hv, bdS, J_iso ho, bdS]
      rcases hL W1 o e with h9 | h9
      · rw [if_neg (by rw [if_pos h9]; exact s1_ne)]
      · by_cases h14 : 14 ≤ o
        · rw [if_neg (by rw [if_pos h14]; exact s1_ne)]
        · rw [if_pos (by rw [if_neg h14]; exact nI_0), bdS, J_stq ho, bdS, if_pos (nI_lt h9 (by omega))]
  | succ c ih =>
    intro n T C Q hc h hQ hL hW hl hn1 hn2 hn
    obtain ⟨n, rfl⟩ : ∃ w, n = w + 1 := ⟨n - 1, by omega⟩
    obtain ⟨Q1, o, rfl⟩ : ∃ Q1 o, Q = Q1 ++ [o] := by
      rcases List.eq_nil_or_concat Q with e | ⟨Q1, o, e⟩
      · rw [e] at hc; cases hc
      · exact ⟨Q1, o, by rw [e, List.concat_eq_append]⟩
    have hq := hQ o (by simp)
    have hlen : (W0 ++ (Q1 ++ [o])).length = (W0 ++ Q1).length + 1 := by rw [← List.append_assoc, List.length_append]; rfl
    have hc1 : Q1.length = c := by rw [List.length_append] at hc; simp at hc; exact hc
    obtain ⟨h1, h2, h3, h4, h5, h6, h7, h8⟩ := id h
    have hv : T.2.2 18 (W0 ++ Q1).length = nI o := by
      rw [h7 _ (by omega), ← List.append_assoc]
      congr 1
      exact gdn_r (W1 := W0 ++ Q1) (W2 := [o]) (i := 0)
    have hs := stq_b (o := o)
    have h' : jC (tw_F T 30 (nI (W0 ++ Q1).length)) x b d C (W0 ++ Q1) := ⟨h1.e (jE.F (by omega)), h2.F (by omega), (F_n (by omega)).trans h3, (F_n (by omega)).trans h4, h5, F_s, fun i hi => by
      show T.2.2 18 i = _
      rw [h7 i (by omega), ← List.append_assoc, gdn_l hi], (F_n (by omega)).trans h8⟩
    obtain ⟨T1, s1, j1, f1, t1⟩ := h'.put (by rw [List.length_append] at hn1; simp at hn1; omega) (nI o)
    obtain ⟨T2, s2, j2, f2, t2⟩ := ih n T1 (C ++ [nI o]) Q1 hc1 j1 (fun p hp => hQ p (by simp [hp])) hL hW hl (by rw [List.length_append] at hn1 ⊢; simp at hn1 ⊢; omega) (by omega) (by omega)
    refine ⟨T2, ?_, ?_, ((jE.F (by omega)).tr f1).tr f2, t2.trans t1⟩
    · rw [← s2]
      show B_drops_0 (J_drops_0 n) (nI ℓ) T = _
      unfold B_drops_0
      rw [if_neg (by rw [h6, ti_le, ti_n (by omega), ti_0]; omega), h6, hlen, nI_1m, nI_rd (by omega) (by omega), hv, bdS, J_iso (by omega), bdS, if_pos (by rw [if_neg (by omega)]; exact nI_0), bdS, J_stq (by omega), bdS, if_neg (nI_nlt hq.2 (by omega)), bdS, F_s]
      rw [show (tw_F T 30 (nI (W0 ++ Q1).length)).2.2 18 = T.2.2 18 from rfl, nI_rd (by omega) (by omega), hv, bdS, s1, bdS]
    · have e : C ++ [nI o] ++ Q1.reverse.map nI = C ++ (Q1 ++ [o]).reverse.map nI := by simp
      rw [← e]
      exact j2
theorem jC.drop (h : jC T x b d C (W0 ++ Q)) (hQ : okQ ℓ Q) (hL : low ℓ W0) (hW : ∀ o ∈ W0, o < 100) (hl : ℓ ≤ 10) (hn1 : C.length + Q.length ≤ 1400) (hn2 : (W0 ++ Q).length ≤ 940) : ∃ T', J_drops (nI ℓ) T = some T' ∧ jC T' x b d (C ++ Q.reverse.map nI) W0 ∧ jE T T' ∧ T'.2.2 19 = T.2.2 19 := by
  unfold J_drops
  exact J_drL Q.length NN T C Q rfl h hQ hL hW hl hn1 hn2 (by rw [List.length_append] at hn2; unfold NN; omega)
/-! what has gone wrong -/
def jX (T : tw_T) (κ b t w : Nat) : Prop := T.1 14 = nI κ ∧ (1 ≤ κ ∧ κ ≤ 5) ∧ T.1 15 = nI b ∧ T.1 29 = nI t ∧ T.1 30 = nI w ∧ t + w < 1400 ∧ w ≤ 940
variable {κ t w : Nat}
theorem jX.gd (h : jX T κ b t w) : J_isGood T = some (nI 0, T) := by
  unfold J_isGood J_isGood_12
  rw [h.1, if_neg (nI_ne0 (by have := h.2.1; omega) (by have := h.2.1; omega)), zr0]
  rfl
theorem jC.wrong (h : jC T x b d C W) {κ : Nat} (hk : 1 ≤ κ ∧ κ ≤ 5) (hb : C.length + W.length < 1400) (hw : W.length ≤ 940) : ∃ T', J_wrong (nI κ) T = some T' ∧ jX T' κ b C.length W.length ∧ jE T T' := by
  obtain ⟨h1, h2, h3, h4, h5, h6, h7, h8⟩ := h
  refine ⟨tw_F (tw_F T 14 (nI κ)) 15 (nI b), ?_, ⟨(F_n (by omega)).trans F_s, hk, F_s, (F_n (by omega)).trans ((F_n (by omega)).trans h4), (F_n (by omega)).trans ((F_n (by omega)).trans h6), hb, hw⟩, (jE.F (by omega)).tr (jE.F (by omega))⟩
  unfold J_wrong
  rw [h3, if_pos rfl, bdS, F_n (show 20 ≠ 14 by omega), h2.2.2.2.1, bdS]
theorem iso_t (v : Int32) : ∃ r, J_isOpen v = some r := by
  unfold J_isOpen
  split
  · exact ⟨_, rfl⟩
  · exact ⟨_, rfl⟩
theorem stq_t (v : Int32) : ∃ r, J_strength v = some r := by
  unfold J_strength
  split
  · exact ⟨_, rfl⟩
  · split
    · exact ⟨_, rfl⟩
    · split
      · exact ⟨_, rfl⟩
      · split
        · exact ⟨_, rfl⟩
        · split
          · exact ⟨_, rfl⟩
          · split
            · exact ⟨_, rfl⟩
            · split
              · exact ⟨_, rfl⟩
              · exact ⟨_, rfl⟩
theorem jX.put (h : jX T κ b t w) (hl : t + w + 1 < 1400) (v : Int32) : ∃ T', J_puts v T = some T' ∧ jX T' κ b (t + 1) w ∧ jE T T' := by
  obtain ⟨h1, h2, h3, h4, h5, h6, h7⟩ := h
  refine ⟨tw_F (tw_A T 17 (upd (T.2.2 17) t v)) 29 (nI (t + 1)), ?_, ⟨(F_n (by omega)).trans h1, h2, (F_n (by omega)).trans h3, F_s, (F_n (by omega)).trans h5, by omega, h7⟩, (jE.A (by omega)).tr (jE.F (by omega))⟩
  unfold J_puts
  rw [h4, nI_st (by omega) (by omega), bdS]
  rw [show (tw_A T 17 (upd (T.2.2 17) t v)).1 29 = nI t from h4, nI_add, bdS]
theorem jX.drop : ∀ (c n : Nat) (T : tw_T) (t w : Nat), w = c → jX T κ b t w → c < n → ∃ T' t' w', J_drops_0 n (nI ℓ) T = some T' ∧ jX T' κ b t' w' ∧ t' + w' = t + w ∧ jE T T' := by
  intro c
  induction c with
  | zero =>
    intro n T t w hw h hn
    obtain ⟨n, rfl⟩ : ∃ w, n = w + 1 := ⟨n - 1, by omega⟩
    refine ⟨T, t, w, ?_, h, rfl, jE.rf⟩
    show B_drops_0 (J_drops_0 n) (nI ℓ) T = _
    unfold B_drops_0 J_drops_68
    rw [if_pos]
    rw [h.2.2.2.2.1, hw]
    decide
  | succ c ih =>
    intro n T t w hw h hn
    obtain ⟨n, rfl⟩ : ∃ w, n = w + 1 := ⟨n - 1, by omega⟩
    subst hw
    obtain ⟨h1, h2, h3, h4, h5, h6, h7⟩ := id h
    obtain ⟨r, hr⟩ := iso_t (T.2.2 18 c)
    obtain ⟨r6, hr6⟩ := stq_t (T.2.2 18 c)
    have st : J_drops_0 (n + 1) (nI ℓ) T = if r = 0 then (if r6 < nI ℓ then some T else ((J_puts (T.2.2 18 c) (tw_F T 30 (nI c))).bind fun r10 => J_drops_0 n (nI ℓ) r10)) else some T := by
      show B_drops_0 (J_drops_0 n) (nI ℓ) T = _
      unfold B_drops_0 J_drops_68
      rw [if_neg (by rw [h5, ti_le, ti_n (by omega), ti_0]; omega), h5, nI_1m, nI_rd (by omega) (by omega), bdS, hr, bdS, bdS, hr6, bdS, bdS, F_s]
      rw [show (tw_F T 30 (nI c)).2.2 18 = T.2.2 18 from rfl, nI_rd (by omega) (by omega), bdS]
    rw [st]
    by_cases e1 : r = 0
    · rw [if_pos e1]
      by_cases e2 : r6 < nI ℓ
      · rw [if_pos e2]
        exact ⟨T, t, c + 1, rfl, h, rfl, jE.rf⟩
      · rw [if_neg e2]
        have h' : jX (tw_F T 30 (nI c)) κ b t c := ⟨(F_n (by omega)).trans h1, h2, (F_n (by omega)).trans h3, (F_n (by omega)).trans h4, F_s, by omega, by omega⟩
        obtain ⟨T1, s1, b1, f1⟩ := h'.put (by omega) (T.2.2 18 c)
        obtain ⟨T2, t2, w2, s2, b2, q2, f2⟩ := ih n T1 (t + 1) c rfl b1 (by omega)
        rw [s1, bdS]
        exact ⟨T2, t2, w2, s2, b2, by omega, ((jE.F (by omega)).tr f1).tr f2⟩
    · rw [if_neg e1]
      exact ⟨T, t, c + 1, rfl, h, rfl, jE.rf⟩
/-- it ends, gone wrong -/
def jEnd (T : tw_T) (κ b : Nat) (r : Option tw_T) : Prop := ∃ T', r = some T' ∧ T'.1 14 = nI κ ∧ T'.1 15 = nI b ∧ (1 ≤ κ ∧ κ ≤ 5) ∧ jE T T'
theorem jEnd.tr {T0 : tw_T} {r : Option tw_T} (h : jEnd T κ b r) (f : jE T0 T) : jEnd T0 κ b r := by
  obtain ⟨T', h1, h2, h3, h4, h5⟩ := h
  exact ⟨T', h1, h2, h3, h4, f.tr h5⟩
theorem jX.x345 (h : jX T κ b t w) (hl : t + w + 1 < 1400) : jEnd T κ b (J_expression_345 T) := by
  obtain ⟨T1, t1, w1, s1, b1, q1, f1⟩ := jX.drop (ℓ := 0) w NN T t w rfl h (by have := h.2.2.2.2.2.2; unfold NN; omega)
  obtain ⟨T2, s2, b2, f2⟩ := b1.put (by omega) (nI 0)
  refine ⟨T2, ?_, b2.1, b2.2.2.1, b2.2.1, f1.tr f2⟩
  unfold J_expression_345 J_drops
  rw [s1, bdS, s2, bdS]
theorem jX.L (h : jX T κ b t w) (hl : t + w + 1 < 1400) {m : Nat} : jEnd T κ b (J_expression_29 (m + 1) (nI 1) T) := by
  have e : J_expression_29 (m + 1) (nI 1) T = J_expression_345 T := by
    show B_expression_29 (J_expression_29 m) (nI 1) T = _
    unfold B_expression_29 J_expression_325
    rw [if_neg s1_ne, h.gd, bdS, if_pos nI_0, h.gd, bdS, if_pos nI_0]
  rw [e]
  exact h.x345 hl
theorem jX.part (h : jX T κ b t w) : J_part T = some T := by
  unfold J_part
  rw [h.gd, bdS, if_pos nI_0]
theorem jX.op4 (h : jX T κ b t w) {n : Nat} {x2 x3 : Int32} : J_operand_4 (n + 1) x2 x3 T = some T := by
  show B_operand_4 (J_operand_4 n) x2 x3 T = _
  unfold B_operand_4 J_operand_120
  by_cases e : x3 = 0
  · rw [if_pos e, h.part, bdS]
  · rw [if_neg e, h.gd, bdS, if_pos nI_0, h.part, bdS]
theorem jX.op75 (h : jX T κ b t w) {n : Nat} {x2 : Int32} : J_operand_75 (J_operand_4 (n + 1)) x2 T = some T := by
  unfold J_operand_75 J_operand_95 J_operand_96 J_operand_117
  rw [h.gd, bdS, if_pos nI_0, if_pos nI_0]
  exact h.op4
theorem jX.op18 (h : jX T κ b t w) {n m : Nat} {x2 x4 : Int32} : J_operand_18 (J_operand_4 (n + 1)) (m + 1) x2 x4 T = some T := by
  show B_operand_18 (J_operand_4 (n + 1)) (J_operand_18 (J_operand_4 (n + 1)) m) x2 x4 T = _
  unfold B_operand_18
  rw [h.gd, bdS, if_pos nI_0]
  exact h.op75
end JE
