/-! the twin's own kit: its world (fields, the word, arrays by rank), reads and writes in it -/
set_option maxRecDepth 100000
abbrev tw_T : Type := (Nat → Int32) × Int64 × (Nat → Nat → Int32)
def tw_len : Nat → Nat
  | 1 => 8
  | 2 => 8
  | 3 => 12
  | 4 => 12
  | 5 => 12
  | 6 => 12
  | 7 => 1400
  | 8 => 700
  | 9 => 3
  | 10 => 8
  | 11 => 8
  | 12 => 12
  | 13 => 12
  | 14 => 12
  | 15 => 12
  | 16 => 85
  | 17 => 1400
  | 18 => 950
  | 19 => 9
  | 20 => 170
  | 21 => 3400
  | 22 => 6
  | 23 => 950
  | 24 => 64
  | 25 => 64
  | 26 => 10240
  | 27 => 240
  | 28 => 24
  | 29 => 248
  | 30 => 24800
  | 31 => 85
  | 32 => 3400
  | 33 => 24
  | _ => 0
def tw_ty : Nat → FieldType
  | 19 => .boolean
  | _ => .int
def tw_fs (o : Nat) (T : tw_T) : List Value := [.int (T.1 0), .int (T.1 1), .int (T.1 2), .int (T.1 3), .int (T.1 4), .ref (o + 1), .ref (o + 2), .ref (o + 3), .ref (o + 4), .ref (o + 5), .ref (o + 6), .ref (o + 7), .ref (o + 8), .int (T.1 13), .int (T.1 14), .int (T.1 15), .ref (o + 9), .int (T.1 17), .int (T.1 18), .int (T.1 19), .int (T.1 20), .int (T.1 21), .int (T.1 22), .int (T.1 23), .long T.2.1, .int (T.1 25), .int (T.1 26), .int (T.1 27), .int (T.1 28), .int (T.1 29), .int (T.1 30), .int (T.1 31), .ref (o + 10), .ref (o + 11), .ref (o + 12), .ref (o + 13), .ref (o + 14), .ref (o + 15), .ref (o + 16), .ref (o + 17), .ref (o + 18), .ref (o + 19), .ref (o + 20), .ref (o + 21), .int (T.1 44), .ref (o + 22), .ref (o + 23), .int (T.1 47), .ref (o + 24), .ref (o + 25), .ref (o + 26), .ref (o + 27), .int (T.1 52), .ref (o + 28), .ref (o + 29), .ref (o + 30), .int (T.1 56), .int (T.1 57), .int (T.1 58), .int (T.1 59), .ref (o + 31), .ref (o + 32), .ref (o + 33)]
def tw_ent (o : Nat) (T : tw_T) (j : Nat) : vv_E := if j = 0 then (true, .inr (3, tw_fs o T)) else (true, .inl (tw_ty j, tw_len j, .inl (T.2.2 j)))
def tp (o : Nat) (h : Nat → Option vv_E) (T : tw_T) : Nat → Option vv_E := fun a => if o ≤ a ∧ a < o + 34 then some (tw_ent o T (a - o)) else h a
theorem tp_o {o : Nat} {h : Nat → Option vv_E} {T : tw_T} : tp o h T o = some (true, .inr (3, tw_fs o T)) := by
  unfold tp
  rw [if_pos ⟨Nat.le_refl _, by omega⟩, Nat.sub_self]
  rfl
theorem tp_a {o : Nat} {h : Nat → Option vv_E} {T : tw_T} {j : Nat} (hj : 0 < j ∧ j < 34) : tp o h T (o + j) = some (true, .inl (tw_ty j, tw_len j, .inl (T.2.2 j))) := by
  unfold tp
  rw [if_pos ⟨by omega, by omega⟩, Nat.add_sub_cancel_left]
  unfold tw_ent
  rw [if_neg (by omega)]
theorem tp_out {o : Nat} {h : Nat → Option vv_E} {T : tw_T} {a : Nat} (ha : a < o ∨ o + 34 ≤ a) : tp o h T a = h a := by
  unfold tp
  rw [if_neg (by omega)]
def tw_F (T : tw_T) (k : Nat) (v : Int32) : tw_T := (fun q => if q = k then v else T.1 q, T.2)
def tw_L (T : tw_T) (v : Int64) : tw_T := (T.1, v, T.2.2)
def tw_A (T : tw_T) (j : Nat) (f : Nat → Int32) : tw_T := (T.1, T.2.1, fun q => if q = j then f else T.2.2 q)
theorem tp_up {o : Nat} {h : Nat → Option vv_E} {T T1 : tw_T} {k : Nat} {e : vv_E} (hk : k < 34) (he : tw_ent o T1 k = e) (ho : ∀ j, j ≠ k → tw_ent o T1 j = tw_ent o T j) : vv_up (tp o h T) (o + k) e = tp o h T1 := by
  funext a
  unfold vv_up tp
  by_cases h1 : a = o + k
  · rw [if_pos h1, if_pos ⟨by omega, by omega⟩, h1, Nat.add_sub_cancel_left, he]
  · rw [if_neg h1]
    by_cases h2 : o ≤ a ∧ a < o + 34
    · rw [if_pos h2, if_pos h2, ho _ (by omega)]
    · rw [if_neg h2, if_neg h2]
theorem tp_upA {o : Nat} {h : Nat → Option vv_E} {T : tw_T} {j : Nat} {f : Nat → Int32} (hj : 0 < j ∧ j < 34) : vv_up (tp o h T) (o + j) (true, .inl (tw_ty j, tw_len j, .inl f)) = tp o h (tw_A T j f) := by
  refine tp_up hj.2 ?_ (fun q hq => ?_)
  · unfold tw_ent tw_A
    rw [if_neg (by omega)]
    simp
  · unfold tw_ent tw_A
    by_cases h0 : q = 0
    · rw [if_pos h0, if_pos h0]
      rfl
    · rw [if_neg h0, if_neg h0]
      simp [hq]
theorem tp_upO {o : Nat} {h : Nat → Option vv_E} {T T1 : tw_T} {fs : List Value} (h1 : fs = tw_fs o T1) (h2 : T1.2.2 = T.2.2) : vv_up (tp o h T) o (true, .inr (3, fs)) = tp o h T1 := by
  subst h1
  have := tp_up (o := o) (h := h) (T := T) (T1 := T1) (k := 0) (e := (true, .inr (3, tw_fs o T1))) (by omega) (by simp [tw_ent]) (fun j hj => by simp [tw_ent, hj, h2])
  simpa using this
/-! what the functions say -/
def rdI (n : Nat) (f : Nat → Int32) (i : Int32) : Option Int32 := if i < 0 ∨ n ≤ i.toNatClampNeg then none else some (f i.toNatClampNeg)
def stA (T : tw_T) (j n : Nat) (i x : Int32) : Option tw_T := if i < 0 ∨ n ≤ i.toNatClampNeg then none else some (tw_A T j (upd (T.2.2 j) i.toNatClampNeg x))
def dvI (x y : Int32) : Option Int32 := if y = 0 then none else some (x / y)
def rmI (x y : Int32) : Option Int32 := if y = 0 then none else some (x - x / y * y)
def zrI (v : Int32) : Option Int32 := if v &&& 1 = v then some v else none
def NN : Nat := 100000
theorem bd_o {α β : Type} {x : Option α} {f : α → Option β} {r : β} (h : x.bind f = some r) : ∃ v, x = some v ∧ f v = some r := Option.bind_eq_some_iff.mp h
theorem bd_s {α β : Type} {x : α} {f : α → Option β} {r : β} (h : (some x).bind f = some r) : ∃ v, v = x ∧ f v = some r := ⟨_, rfl, h⟩
theorem rd_o {β : Type} {n : Nat} {f : Nat → Int32} {i : Int32} {g : Int32 → Option β} {r : β} (h : (rdI n f i).bind g = some r) : ∃ v, vp_in i n ∧ f i.toNatClampNeg = v ∧ g v = some r := by
  unfold rdI at h
  by_cases hc : i < 0 ∨ n ≤ i.toNatClampNeg
  · rw [if_pos hc] at h; cases h
  · rw [if_neg hc] at h; exact ⟨_, hc, rfl, h⟩
theorem st_o {β : Type} {T : tw_T} {j n : Nat} {i x : Int32} {g : tw_T → Option β} {r : β} (h : (stA T j n i x).bind g = some r) : ∃ T1, vp_in i n ∧ T1 = tw_A T j (upd (T.2.2 j) i.toNatClampNeg x) ∧ g T1 = some r := by
  unfold stA at h
  by_cases hc : i < 0 ∨ n ≤ i.toNatClampNeg
  · rw [if_pos hc] at h; cases h
  · rw [if_neg hc] at h; exact ⟨_, hc, rfl, h⟩
theorem dv_o {β : Type} {x y : Int32} {g : Int32 → Option β} {r : β} (h : (dvI x y).bind g = some r) : ¬ y = 0 ∧ g (x / y) = some r := by
  unfold dvI at h
  by_cases hc : y = 0
  · rw [if_pos hc] at h; cases h
  · rw [if_neg hc] at h; exact ⟨hc, h⟩
theorem rm_o {β : Type} {x y : Int32} {g : Int32 → Option β} {r : β} (h : (rmI x y).bind g = some r) : ¬ y = 0 ∧ g (x - x / y * y) = some r := by
  unfold rmI at h
  by_cases hc : y = 0
  · rw [if_pos hc] at h; cases h
  · rw [if_neg hc] at h; exact ⟨hc, h⟩
theorem zr_o {β : Type} {v : Int32} {g : Int32 → Option β} {r : β} (h : (zrI v).bind g = some r) : narrow .boolean (.int v) = .int v ∧ g v = some r := by
  unfold zrI at h
  by_cases hc : v &&& 1 = v
  · rw [if_pos hc] at h; exact ⟨congrArg Value.int hc, h⟩
  · rw [if_neg hc] at h; cases h
section TWR
variable {l : Launch} {G : vv_G} {M : vv_M} {d pc : Nat} {lv : List (Nat × Value)} {rest : List Value} {E : vv_X} {o : Nat} {h0 : Nat → Option vv_E} {T T1 : tw_T} {nz : Nat × Nat}
theorem tw_get {ix k : Nat} {v : Value} (hf : vv_fld G M.1.cls ix 3 k) (hv : (tw_fs o T)[k]? = some v) (dg : decode M.2.1 pc = .ok (.getfield ix, 3)) (k9 : vv_V l G M d (pc + 3) lv (v :: rest) (tp o h0 T, nz) E) : vv_V l G M d pc lv (.ref o :: rest) (tp o h0 T, nz) E := vv_get hf tp_o hv dg k9
theorem tw_put {ix k : Nat} {ty : FieldType} {v : Value} (hf : vv_put G M.1.cls ix 3 k ty none) (hG : vv_gok G) (hfin : (TX4 k).2.2.2 = false) (hn : narrow ty v = v) (hfit : fits ty v = true) (hlen : k < 63) (hset : (tw_fs o T).set k v = tw_fs o T1) (hT : T1.2.2 = T.2.2) (dg : decode M.2.1 pc = .ok (.putfield ix, 3)) (k9 : vv_V l G M d (pc + 3) lv rest (tp o h0 T1, nz) E) : vv_V l G M d pc lv (v :: .ref o :: rest) (tp o h0 T, nz) E := by
  refine vv_putf hf (Or.inr fun C T' N h => ?_) tp_o hn hfit hlen dg ?_
  · rw [hG.1] at h
    cases h
    exact hfin
  · rw [show vv_up (tp o h0 T, nz).1 o (true, .inr (3, (tw_fs o T).set k v)) = tp o h0 T1 from tp_upO hset hT]
    exact k9
theorem tw_ald {i v : Int32} (j : Nat) (hj : 0 < j ∧ j < 34) (hty : tw_ty j = .int) (hin : vp_in i (tw_len j)) (hv : T.2.2 j i.toNatClampNeg = v) (dg : decode M.2.1 pc = .ok (.iaload, 1)) (k9 : vv_V l G M d (pc + 1) lv (.int v :: rest) (tp o h0 T, nz) E) : vv_V l G M d pc lv (.int i :: .ref (o + j) :: rest) (tp o h0 T, nz) E := by
  have he := tp_a (o := o) (h := h0) (T := T) hj
  rw [hty] at he
  subst hv
  exact vv_iald he hin dg k9
theorem tw_zald {i v : Int32} (j : Nat) (hj : 0 < j ∧ j < 34) (hty : tw_ty j = .boolean) (hin : vp_in i (tw_len j)) (hv : T.2.2 j i.toNatClampNeg = v) (dg : decode M.2.1 pc = .ok (.baload, 1)) (k9 : vv_V l G M d (pc + 1) lv (.int v :: rest) (tp o h0 T, nz) E) : vv_V l G M d pc lv (.int i :: .ref (o + j) :: rest) (tp o h0 T, nz) E := by
  have he := tp_a (o := o) (h := h0) (T := T) hj
  rw [hty] at he
  subst hv
  exact vv_zald he hin dg k9
theorem tw_ast {i x : Int32} (j : Nat) (hj : 0 < j ∧ j < 34) (hty : tw_ty j = .int) (hin : vp_in i (tw_len j)) (hT : T1 = tw_A T j (upd (T.2.2 j) i.toNatClampNeg x)) (dg : decode M.2.1 pc = .ok (.iastore, 1)) (k9 : vv_V l G M d (pc + 1) lv rest (tp o h0 T1, nz) E) : vv_V l G M d pc lv (.int x :: .int i :: .ref (o + j) :: rest) (tp o h0 T, nz) E := by
  have he := tp_a (o := o) (h := h0) (T := T) hj
  rw [hty] at he
  subst hT
  refine vv_iast he hin dg ?_
  have h2 := tp_upA (o := o) (h := h0) (T := T) (f := upd (T.2.2 j) i.toNatClampNeg x) hj
  rw [hty] at h2
  rw [show vv_up (tp o h0 T, nz).1 (o + j) _ = _ from h2]
  exact k9
theorem tw_zast {i x : Int32} (j : Nat) (hj : 0 < j ∧ j < 34) (hty : tw_ty j = .boolean) (hin : vp_in i (tw_len j)) (hx : vp_nar .boolean x = x) (hT : T1 = tw_A T j (upd (T.2.2 j) i.toNatClampNeg x)) (dg : decode M.2.1 pc = .ok (.bastore, 1)) (k9 : vv_V l G M d (pc + 1) lv rest (tp o h0 T1, nz) E) : vv_V l G M d pc lv (.int x :: .int i :: .ref (o + j) :: rest) (tp o h0 T, nz) E := by
  have he := tp_a (o := o) (h := h0) (T := T) hj
  rw [hty] at he
  subst hT
  refine vv_zast he hin dg ?_
  rw [hx]
  have h2 := tp_upA (o := o) (h := h0) (T := T) (f := upd (T.2.2 j) i.toNatClampNeg x) hj
  rw [hty] at h2
  rw [show vv_up (tp o h0 T, nz).1 (o + j) _ = _ from h2]
  exact k9
theorem tw_alen {v : Int32} (j : Nat) (hj : 0 < j ∧ j < 34) (hv : nI (tw_len j) = v) (dg : decode M.2.1 pc = .ok (.arraylength, 1)) (k9 : vv_V l G M d (pc + 1) lv (.int v :: rest) (tp o h0 T, nz) E) : vv_V l G M d pc lv (.ref (o + j) :: rest) (tp o h0 T, nz) E := vv_alen (tp_a (o := o) (h := h0) (T := T) hj) hv dg k9
end TWR
theorem tw_set0 (o : Nat) (T : tw_T) (v : Int32) : (tw_fs o T).set 0 (.int v) = tw_fs o (tw_F T 0 v) := rfl
theorem tw_set1 (o : Nat) (T : tw_T) (v : Int32) : (tw_fs o T).set 1 (.int v) = tw_fs o (tw_F T 1 v) := rfl
theorem tw_set2 (o : Nat) (T : tw_T) (v : Int32) : (tw_fs o T).set 2 (.int v) = tw_fs o (tw_F T 2 v) := rfl
theorem tw_set3 (o : Nat) (T : tw_T) (v : Int32) : (tw_fs o T).set 3 (.int v) = tw_fs o (tw_F T 3 v) := rfl
theorem tw_set4 (o : Nat) (T : tw_T) (v : Int32) : (tw_fs o T).set 4 (.int v) = tw_fs o (tw_F T 4 v) := rfl
theorem tw_set13 (o : Nat) (T : tw_T) (v : Int32) : (tw_fs o T).set 13 (.int v) = tw_fs o (tw_F T 13 v) := rfl
theorem tw_set14 (o : Nat) (T : tw_T) (v : Int32) : (tw_fs o T).set 14 (.int v) = tw_fs o (tw_F T 14 v) := rfl
theorem tw_set15 (o : Nat) (T : tw_T) (v : Int32) : (tw_fs o T).set 15 (.int v) = tw_fs o (tw_F T 15 v) := rfl
theorem tw_set17 (o : Nat) (T : tw_T) (v : Int32) : (tw_fs o T).set 17 (.int v) = tw_fs o (tw_F T 17 v) := rfl
theorem tw_set18 (o : Nat) (T : tw_T) (v : Int32) : (tw_fs o T).set 18 (.int v) = tw_fs o (tw_F T 18 v) := rfl
theorem tw_set19 (o : Nat) (T : tw_T) (v : Int32) : (tw_fs o T).set 19 (.int v) = tw_fs o (tw_F T 19 v) := rfl
theorem tw_set20 (o : Nat) (T : tw_T) (v : Int32) : (tw_fs o T).set 20 (.int v) = tw_fs o (tw_F T 20 v) := rfl
theorem tw_set21 (o : Nat) (T : tw_T) (v : Int32) : (tw_fs o T).set 21 (.int v) = tw_fs o (tw_F T 21 v) := rfl
theorem tw_set22 (o : Nat) (T : tw_T) (v : Int32) : (tw_fs o T).set 22 (.int v) = tw_fs o (tw_F T 22 v) := rfl
theorem tw_set23 (o : Nat) (T : tw_T) (v : Int32) : (tw_fs o T).set 23 (.int v) = tw_fs o (tw_F T 23 v) := rfl
theorem tw_set24 (o : Nat) (T : tw_T) (v : Int64) : (tw_fs o T).set 24 (.long v) = tw_fs o (tw_L T v) := rfl
theorem tw_set25 (o : Nat) (T : tw_T) (v : Int32) : (tw_fs o T).set 25 (.int v) = tw_fs o (tw_F T 25 v) := rfl
theorem tw_set26 (o : Nat) (T : tw_T) (v : Int32) : (tw_fs o T).set 26 (.int v) = tw_fs o (tw_F T 26 v) := rfl
theorem tw_set27 (o : Nat) (T : tw_T) (v : Int32) : (tw_fs o T).set 27 (.int v) = tw_fs o (tw_F T 27 v) := rfl
theorem tw_set28 (o : Nat) (T : tw_T) (v : Int32) : (tw_fs o T).set 28 (.int v) = tw_fs o (tw_F T 28 v) := rfl
theorem tw_set29 (o : Nat) (T : tw_T) (v : Int32) : (tw_fs o T).set 29 (.int v) = tw_fs o (tw_F T 29 v) := rfl
theorem tw_set30 (o : Nat) (T : tw_T) (v : Int32) : (tw_fs o T).set 30 (.int v) = tw_fs o (tw_F T 30 v) := rfl
theorem tw_set31 (o : Nat) (T : tw_T) (v : Int32) : (tw_fs o T).set 31 (.int v) = tw_fs o (tw_F T 31 v) := rfl
theorem tw_set44 (o : Nat) (T : tw_T) (v : Int32) : (tw_fs o T).set 44 (.int v) = tw_fs o (tw_F T 44 v) := rfl
theorem tw_set47 (o : Nat) (T : tw_T) (v : Int32) : (tw_fs o T).set 47 (.int v) = tw_fs o (tw_F T 47 v) := rfl
theorem tw_set52 (o : Nat) (T : tw_T) (v : Int32) : (tw_fs o T).set 52 (.int v) = tw_fs o (tw_F T 52 v) := rfl
theorem tw_set56 (o : Nat) (T : tw_T) (v : Int32) : (tw_fs o T).set 56 (.int v) = tw_fs o (tw_F T 56 v) := rfl
theorem tw_set57 (o : Nat) (T : tw_T) (v : Int32) : (tw_fs o T).set 57 (.int v) = tw_fs o (tw_F T 57 v) := rfl
theorem tw_set58 (o : Nat) (T : tw_T) (v : Int32) : (tw_fs o T).set 58 (.int v) = tw_fs o (tw_F T 58 v) := rfl
theorem tw_set59 (o : Nat) (T : tw_T) (v : Int32) : (tw_fs o T).set 59 (.int v) = tw_fs o (tw_F T 59 v) := rfl
theorem fl_X4_9 {G : vv_G} (hG : vv_gok G) : vv_fld G RX4 9 3 4 := ⟨RX4, TX4, 63, by rw [hG.1]; rfl, in_X4, by decide, q1570⟩
theorem pt_X4_9 {G : vv_G} (hG : vv_gok G) : vv_put G RX4 9 3 4 .int none := ⟨RX4, TX4, 63, tyX4, by rw [hG.1]; rfl, in_X4, tyX4_ok, nmX4, by decide, tyX4_ok 4 (by decide), q1570, Or.inl rfl⟩
theorem fl_X4_13 {G : vv_G} (hG : vv_gok G) : vv_fld G RX4 13 3 5 := ⟨RX4, TX4, 63, by rw [hG.1]; rfl, in_X4, by decide, q1571⟩
theorem pt_X4_13 {G : vv_G} (hG : vv_gok G) : vv_put G RX4 13 3 5 (.array .int) none := ⟨RX4, TX4, 63, tyX4, by rw [hG.1]; rfl, in_X4, tyX4_ok, nmX4, by decide, tyX4_ok 5 (by decide), q1571, Or.inr ⟨rfl, rfl⟩⟩
theorem fl_X4_17 {G : vv_G} (hG : vv_gok G) : vv_fld G RX4 17 3 6 := ⟨RX4, TX4, 63, by rw [hG.1]; rfl, in_X4, by decide, q1572⟩
theorem pt_X4_17 {G : vv_G} (hG : vv_gok G) : vv_put G RX4 17 3 6 (.array .int) none := ⟨RX4, TX4, 63, tyX4, by rw [hG.1]; rfl, in_X4, tyX4_ok, nmX4, by decide, tyX4_ok 6 (by decide), q1572, Or.inr ⟨rfl, rfl⟩⟩
theorem fl_X4_20 {G : vv_G} (hG : vv_gok G) : vv_fld G RX4 20 3 7 := ⟨RX4, TX4, 63, by rw [hG.1]; rfl, in_X4, by decide, q1573⟩
theorem pt_X4_20 {G : vv_G} (hG : vv_gok G) : vv_put G RX4 20 3 7 (.array .int) none := ⟨RX4, TX4, 63, tyX4, by rw [hG.1]; rfl, in_X4, tyX4_ok, nmX4, by decide, tyX4_ok 7 (by decide), q1573, Or.inr ⟨rfl, rfl⟩⟩
theorem fl_X4_23 {G : vv_G} (hG : vv_gok G) : vv_fld G RX4 23 3 8 := ⟨RX4, TX4, 63, by rw [hG.1]; rfl, in_X4, by decide, q1574⟩
theorem pt_X4_23 {G : vv_G} (hG : vv_gok G) : vv_put G RX4 23 3 8 (.array .int) none := ⟨RX4, TX4, 63, tyX4, by rw [hG.1]; rfl, in_X4, tyX4_ok, nmX4, by decide, tyX4_ok 8 (by decide), q1574, Or.inr ⟨rfl, rfl⟩⟩
theorem fl_X4_26 {G : vv_G} (hG : vv_gok G) : vv_fld G RX4 26 3 9 := ⟨RX4, TX4, 63, by rw [hG.1]; rfl, in_X4, by decide, q1575⟩
theorem pt_X4_26 {G : vv_G} (hG : vv_gok G) : vv_put G RX4 26 3 9 (.array .int) none := ⟨RX4, TX4, 63, tyX4, by rw [hG.1]; rfl, in_X4, tyX4_ok, nmX4, by decide, tyX4_ok 9 (by decide), q1575, Or.inr ⟨rfl, rfl⟩⟩
theorem fl_X4_29 {G : vv_G} (hG : vv_gok G) : vv_fld G RX4 29 3 10 := ⟨RX4, TX4, 63, by rw [hG.1]; rfl, in_X4, by decide, q1576⟩
theorem pt_X4_29 {G : vv_G} (hG : vv_gok G) : vv_put G RX4 29 3 10 (.array .int) none := ⟨RX4, TX4, 63, tyX4, by rw [hG.1]; rfl, in_X4, tyX4_ok, nmX4, by decide, tyX4_ok 10 (by decide), q1576, Or.inr ⟨rfl, rfl⟩⟩
theorem fl_X4_32 {G : vv_G} (hG : vv_gok G) : vv_fld G RX4 32 3 11 := ⟨RX4, TX4, 63, by rw [hG.1]; rfl, in_X4, by decide, q1577⟩
theorem pt_X4_32 {G : vv_G} (hG : vv_gok G) : vv_put G RX4 32 3 11 (.array .int) none := ⟨RX4, TX4, 63, tyX4, by rw [hG.1]; rfl, in_X4, tyX4_ok, nmX4, by decide, tyX4_ok 11 (by decide), q1577, Or.inr ⟨rfl, rfl⟩⟩
theorem fl_X4_35 {G : vv_G} (hG : vv_gok G) : vv_fld G RX4 35 3 12 := ⟨RX4, TX4, 63, by rw [hG.1]; rfl, in_X4, by decide, q1578⟩
theorem pt_X4_35 {G : vv_G} (hG : vv_gok G) : vv_put G RX4 35 3 12 (.array .int) none := ⟨RX4, TX4, 63, tyX4, by rw [hG.1]; rfl, in_X4, tyX4_ok, nmX4, by decide, tyX4_ok 12 (by decide), q1578, Or.inr ⟨rfl, rfl⟩⟩
theorem fl_X4_38 {G : vv_G} (hG : vv_gok G) : vv_fld G RX4 38 3 15 := ⟨RX4, TX4, 63, by rw [hG.1]; rfl, in_X4, by decide, q1581⟩
theorem pt_X4_38 {G : vv_G} (hG : vv_gok G) : vv_put G RX4 38 3 15 .int none := ⟨RX4, TX4, 63, tyX4, by rw [hG.1]; rfl, in_X4, tyX4_ok, nmX4, by decide, tyX4_ok 15 (by decide), q1581, Or.inl rfl⟩
theorem fl_X4_41 {G : vv_G} (hG : vv_gok G) : vv_fld G RX4 41 3 16 := ⟨RX4, TX4, 63, by rw [hG.1]; rfl, in_X4, by decide, q1582⟩
theorem pt_X4_41 {G : vv_G} (hG : vv_gok G) : vv_put G RX4 41 3 16 (.array .int) none := ⟨RX4, TX4, 63, tyX4, by rw [hG.1]; rfl, in_X4, tyX4_ok, nmX4, by decide, tyX4_ok 16 (by decide), q1582, Or.inr ⟨rfl, rfl⟩⟩
theorem fl_X4_44 {G : vv_G} (hG : vv_gok G) : vv_fld G RX4 44 3 32 := ⟨RX4, TX4, 63, by rw [hG.1]; rfl, in_X4, by decide, q1598⟩
theorem pt_X4_44 {G : vv_G} (hG : vv_gok G) : vv_put G RX4 44 3 32 (.array .int) none := ⟨RX4, TX4, 63, tyX4, by rw [hG.1]; rfl, in_X4, tyX4_ok, nmX4, by decide, tyX4_ok 32 (by decide), q1598, Or.inr ⟨rfl, rfl⟩⟩
theorem fl_X4_47 {G : vv_G} (hG : vv_gok G) : vv_fld G RX4 47 3 33 := ⟨RX4, TX4, 63, by rw [hG.1]; rfl, in_X4, by decide, q1599⟩
theorem pt_X4_47 {G : vv_G} (hG : vv_gok G) : vv_put G RX4 47 3 33 (.array .int) none := ⟨RX4, TX4, 63, tyX4, by rw [hG.1]; rfl, in_X4, tyX4_ok, nmX4, by decide, tyX4_ok 33 (by decide), q1599, Or.inr ⟨rfl, rfl⟩⟩
theorem fl_X4_50 {G : vv_G} (hG : vv_gok G) : vv_fld G RX4 50 3 34 := ⟨RX4, TX4, 63, by rw [hG.1]; rfl, in_X4, by decide, q1600⟩
theorem pt_X4_50 {G : vv_G} (hG : vv_gok G) : vv_put G RX4 50 3 34 (.array .int) none := ⟨RX4, TX4, 63, tyX4, by rw [hG.1]; rfl, in_X4, tyX4_ok, nmX4, by decide, tyX4_ok 34 (by decide), q1600, Or.inr ⟨rfl, rfl⟩⟩
theorem fl_X4_53 {G : vv_G} (hG : vv_gok G) : vv_fld G RX4 53 3 35 := ⟨RX4, TX4, 63, by rw [hG.1]; rfl, in_X4, by decide, q1601⟩
theorem pt_X4_53 {G : vv_G} (hG : vv_gok G) : vv_put G RX4 53 3 35 (.array .int) none := ⟨RX4, TX4, 63, tyX4, by rw [hG.1]; rfl, in_X4, tyX4_ok, nmX4, by decide, tyX4_ok 35 (by decide), q1601, Or.inr ⟨rfl, rfl⟩⟩
theorem fl_X4_56 {G : vv_G} (hG : vv_gok G) : vv_fld G RX4 56 3 36 := ⟨RX4, TX4, 63, by rw [hG.1]; rfl, in_X4, by decide, q1602⟩
theorem pt_X4_56 {G : vv_G} (hG : vv_gok G) : vv_put G RX4 56 3 36 (.array .int) none := ⟨RX4, TX4, 63, tyX4, by rw [hG.1]; rfl, in_X4, tyX4_ok, nmX4, by decide, tyX4_ok 36 (by decide), q1602, Or.inr ⟨rfl, rfl⟩⟩
theorem fl_X4_59 {G : vv_G} (hG : vv_gok G) : vv_fld G RX4 59 3 37 := ⟨RX4, TX4, 63, by rw [hG.1]; rfl, in_X4, by decide, q1603⟩
theorem pt_X4_59 {G : vv_G} (hG : vv_gok G) : vv_put G RX4 59 3 37 (.array .int) none := ⟨RX4, TX4, 63, tyX4, by rw [hG.1]; rfl, in_X4, tyX4_ok, nmX4, by decide, tyX4_ok 37 (by decide), q1603, Or.inr ⟨rfl, rfl⟩⟩
theorem fl_X4_62 {G : vv_G} (hG : vv_gok G) : vv_fld G RX4 62 3 38 := ⟨RX4, TX4, 63, by rw [hG.1]; rfl, in_X4, by decide, q1604⟩
theorem pt_X4_62 {G : vv_G} (hG : vv_gok G) : vv_put G RX4 62 3 38 (.array .int) none := ⟨RX4, TX4, 63, tyX4, by rw [hG.1]; rfl, in_X4, tyX4_ok, nmX4, by decide, tyX4_ok 38 (by decide), q1604, Or.inr ⟨rfl, rfl⟩⟩
theorem fl_X4_65 {G : vv_G} (hG : vv_gok G) : vv_fld G RX4 65 3 39 := ⟨RX4, TX4, 63, by rw [hG.1]; rfl, in_X4, by decide, q1605⟩
theorem pt_X4_65 {G : vv_G} (hG : vv_gok G) : vv_put G RX4 65 3 39 (.array .int) none := ⟨RX4, TX4, 63, tyX4, by rw [hG.1]; rfl, in_X4, tyX4_ok, nmX4, by decide, tyX4_ok 39 (by decide), q1605, Or.inr ⟨rfl, rfl⟩⟩
theorem fl_X4_68 {G : vv_G} (hG : vv_gok G) : vv_fld G RX4 68 3 40 := ⟨RX4, TX4, 63, by rw [hG.1]; rfl, in_X4, by decide, q1606⟩
theorem pt_X4_68 {G : vv_G} (hG : vv_gok G) : vv_put G RX4 68 3 40 (.array .int) none := ⟨RX4, TX4, 63, tyX4, by rw [hG.1]; rfl, in_X4, tyX4_ok, nmX4, by decide, tyX4_ok 40 (by decide), q1606, Or.inr ⟨rfl, rfl⟩⟩
theorem fl_X4_71 {G : vv_G} (hG : vv_gok G) : vv_fld G RX4 71 3 41 := ⟨RX4, TX4, 63, by rw [hG.1]; rfl, in_X4, by decide, q1607⟩
theorem pt_X4_71 {G : vv_G} (hG : vv_gok G) : vv_put G RX4 71 3 41 (.array .boolean) none := ⟨RX4, TX4, 63, tyX4, by rw [hG.1]; rfl, in_X4, tyX4_ok, nmX4, by decide, tyX4_ok 41 (by decide), q1607, Or.inr ⟨rfl, rfl⟩⟩
theorem fl_X4_75 {G : vv_G} (hG : vv_gok G) : vv_fld G RX4 75 3 42 := ⟨RX4, TX4, 63, by rw [hG.1]; rfl, in_X4, by decide, q1608⟩
theorem pt_X4_75 {G : vv_G} (hG : vv_gok G) : vv_put G RX4 75 3 42 (.array .int) none := ⟨RX4, TX4, 63, tyX4, by rw [hG.1]; rfl, in_X4, tyX4_ok, nmX4, by decide, tyX4_ok 42 (by decide), q1608, Or.inr ⟨rfl, rfl⟩⟩
theorem fl_X4_78 {G : vv_G} (hG : vv_gok G) : vv_fld G RX4 78 3 43 := ⟨RX4, TX4, 63, by rw [hG.1]; rfl, in_X4, by decide, q1609⟩
theorem pt_X4_78 {G : vv_G} (hG : vv_gok G) : vv_put G RX4 78 3 43 (.array .int) none := ⟨RX4, TX4, 63, tyX4, by rw [hG.1]; rfl, in_X4, tyX4_ok, nmX4, by decide, tyX4_ok 43 (by decide), q1609, Or.inr ⟨rfl, rfl⟩⟩
theorem fl_X4_81 {G : vv_G} (hG : vv_gok G) : vv_fld G RX4 81 3 45 := ⟨RX4, TX4, 63, by rw [hG.1]; rfl, in_X4, by decide, q1611⟩
theorem pt_X4_81 {G : vv_G} (hG : vv_gok G) : vv_put G RX4 81 3 45 (.array .int) none := ⟨RX4, TX4, 63, tyX4, by rw [hG.1]; rfl, in_X4, tyX4_ok, nmX4, by decide, tyX4_ok 45 (by decide), q1611, Or.inr ⟨rfl, rfl⟩⟩
theorem fl_X4_84 {G : vv_G} (hG : vv_gok G) : vv_fld G RX4 84 3 46 := ⟨RX4, TX4, 63, by rw [hG.1]; rfl, in_X4, by decide, q1612⟩
theorem pt_X4_84 {G : vv_G} (hG : vv_gok G) : vv_put G RX4 84 3 46 (.array .int) none := ⟨RX4, TX4, 63, tyX4, by rw [hG.1]; rfl, in_X4, tyX4_ok, nmX4, by decide, tyX4_ok 46 (by decide), q1612, Or.inr ⟨rfl, rfl⟩⟩
theorem fl_X4_87 {G : vv_G} (hG : vv_gok G) : vv_fld G RX4 87 3 48 := ⟨RX4, TX4, 63, by rw [hG.1]; rfl, in_X4, by decide, q1614⟩
theorem pt_X4_87 {G : vv_G} (hG : vv_gok G) : vv_put G RX4 87 3 48 (.array .int) none := ⟨RX4, TX4, 63, tyX4, by rw [hG.1]; rfl, in_X4, tyX4_ok, nmX4, by decide, tyX4_ok 48 (by decide), q1614, Or.inr ⟨rfl, rfl⟩⟩
theorem fl_X4_90 {G : vv_G} (hG : vv_gok G) : vv_fld G RX4 90 3 49 := ⟨RX4, TX4, 63, by rw [hG.1]; rfl, in_X4, by decide, q1615⟩
theorem pt_X4_90 {G : vv_G} (hG : vv_gok G) : vv_put G RX4 90 3 49 (.array .int) none := ⟨RX4, TX4, 63, tyX4, by rw [hG.1]; rfl, in_X4, tyX4_ok, nmX4, by decide, tyX4_ok 49 (by decide), q1615, Or.inr ⟨rfl, rfl⟩⟩
theorem fl_X4_93 {G : vv_G} (hG : vv_gok G) : vv_fld G RX4 93 3 50 := ⟨RX4, TX4, 63, by rw [hG.1]; rfl, in_X4, by decide, q1616⟩
theorem pt_X4_93 {G : vv_G} (hG : vv_gok G) : vv_put G RX4 93 3 50 (.array .int) none := ⟨RX4, TX4, 63, tyX4, by rw [hG.1]; rfl, in_X4, tyX4_ok, nmX4, by decide, tyX4_ok 50 (by decide), q1616, Or.inr ⟨rfl, rfl⟩⟩
theorem fl_X4_96 {G : vv_G} (hG : vv_gok G) : vv_fld G RX4 96 3 51 := ⟨RX4, TX4, 63, by rw [hG.1]; rfl, in_X4, by decide, q1617⟩
theorem pt_X4_96 {G : vv_G} (hG : vv_gok G) : vv_put G RX4 96 3 51 (.array .int) none := ⟨RX4, TX4, 63, tyX4, by rw [hG.1]; rfl, in_X4, tyX4_ok, nmX4, by decide, tyX4_ok 51 (by decide), q1617, Or.inr ⟨rfl, rfl⟩⟩
theorem fl_X4_99 {G : vv_G} (hG : vv_gok G) : vv_fld G RX4 99 3 53 := ⟨RX4, TX4, 63, by rw [hG.1]; rfl, in_X4, by decide, q1619⟩
theorem pt_X4_99 {G : vv_G} (hG : vv_gok G) : vv_put G RX4 99 3 53 (.array .int) none := ⟨RX4, TX4, 63, tyX4, by rw [hG.1]; rfl, in_X4, tyX4_ok, nmX4, by decide, tyX4_ok 53 (by decide), q1619, Or.inr ⟨rfl, rfl⟩⟩
theorem fl_X4_102 {G : vv_G} (hG : vv_gok G) : vv_fld G RX4 102 3 54 := ⟨RX4, TX4, 63, by rw [hG.1]; rfl, in_X4, by decide, q1620⟩
theorem pt_X4_102 {G : vv_G} (hG : vv_gok G) : vv_put G RX4 102 3 54 (.array .int) none := ⟨RX4, TX4, 63, tyX4, by rw [hG.1]; rfl, in_X4, tyX4_ok, nmX4, by decide, tyX4_ok 54 (by decide), q1620, Or.inr ⟨rfl, rfl⟩⟩
theorem fl_X4_105 {G : vv_G} (hG : vv_gok G) : vv_fld G RX4 105 3 55 := ⟨RX4, TX4, 63, by rw [hG.1]; rfl, in_X4, by decide, q1621⟩
theorem pt_X4_105 {G : vv_G} (hG : vv_gok G) : vv_put G RX4 105 3 55 (.array .int) none := ⟨RX4, TX4, 63, tyX4, by rw [hG.1]; rfl, in_X4, tyX4_ok, nmX4, by decide, tyX4_ok 55 (by decide), q1621, Or.inr ⟨rfl, rfl⟩⟩
theorem fl_X4_108 {G : vv_G} (hG : vv_gok G) : vv_fld G RX4 108 3 60 := ⟨RX4, TX4, 63, by rw [hG.1]; rfl, in_X4, by decide, q1626⟩
theorem pt_X4_108 {G : vv_G} (hG : vv_gok G) : vv_put G RX4 108 3 60 (.array .int) none := ⟨RX4, TX4, 63, tyX4, by rw [hG.1]; rfl, in_X4, tyX4_ok, nmX4, by decide, tyX4_ok 60 (by decide), q1626, Or.inr ⟨rfl, rfl⟩⟩
theorem fl_X4_111 {G : vv_G} (hG : vv_gok G) : vv_fld G RX4 111 3 61 := ⟨RX4, TX4, 63, by rw [hG.1]; rfl, in_X4, by decide, q1627⟩
theorem pt_X4_111 {G : vv_G} (hG : vv_gok G) : vv_put G RX4 111 3 61 (.array .int) none := ⟨RX4, TX4, 63, tyX4, by rw [hG.1]; rfl, in_X4, tyX4_ok, nmX4, by decide, tyX4_ok 61 (by decide), q1627, Or.inr ⟨rfl, rfl⟩⟩
theorem fl_X4_114 {G : vv_G} (hG : vv_gok G) : vv_fld G RX4 114 3 62 := ⟨RX4, TX4, 63, by rw [hG.1]; rfl, in_X4, by decide, q1628⟩
theorem pt_X4_114 {G : vv_G} (hG : vv_gok G) : vv_put G RX4 114 3 62 (.array .int) none := ⟨RX4, TX4, 63, tyX4, by rw [hG.1]; rfl, in_X4, tyX4_ok, nmX4, by decide, tyX4_ok 62 (by decide), q1628, Or.inr ⟨rfl, rfl⟩⟩
theorem fl_X4_117 {G : vv_G} (hG : vv_gok G) : vv_fld G RX4 117 3 0 := ⟨RX4, TX4, 63, by rw [hG.1]; rfl, in_X4, by decide, q1566⟩
theorem pt_X4_117 {G : vv_G} (hG : vv_gok G) : vv_put G RX4 117 3 0 .int none := ⟨RX4, TX4, 63, tyX4, by rw [hG.1]; rfl, in_X4, tyX4_ok, nmX4, by decide, tyX4_ok 0 (by decide), q1566, Or.inl rfl⟩
theorem fl_X4_120 {G : vv_G} (hG : vv_gok G) : vv_fld G RX4 120 3 13 := ⟨RX4, TX4, 63, by rw [hG.1]; rfl, in_X4, by decide, q1579⟩
theorem pt_X4_120 {G : vv_G} (hG : vv_gok G) : vv_put G RX4 120 3 13 .int none := ⟨RX4, TX4, 63, tyX4, by rw [hG.1]; rfl, in_X4, tyX4_ok, nmX4, by decide, tyX4_ok 13 (by decide), q1579, Or.inl rfl⟩
theorem fl_X4_127 {G : vv_G} (hG : vv_gok G) : vv_fld G RX4 127 3 17 := ⟨RX4, TX4, 63, by rw [hG.1]; rfl, in_X4, by decide, q1583⟩
theorem pt_X4_127 {G : vv_G} (hG : vv_gok G) : vv_put G RX4 127 3 17 .int none := ⟨RX4, TX4, 63, tyX4, by rw [hG.1]; rfl, in_X4, tyX4_ok, nmX4, by decide, tyX4_ok 17 (by decide), q1583, Or.inl rfl⟩
theorem fl_X4_130 {G : vv_G} (hG : vv_gok G) : vv_fld G RX4 130 3 18 := ⟨RX4, TX4, 63, by rw [hG.1]; rfl, in_X4, by decide, q1584⟩
theorem pt_X4_130 {G : vv_G} (hG : vv_gok G) : vv_put G RX4 130 3 18 .int none := ⟨RX4, TX4, 63, tyX4, by rw [hG.1]; rfl, in_X4, tyX4_ok, nmX4, by decide, tyX4_ok 18 (by decide), q1584, Or.inl rfl⟩
theorem fl_X4_137 {G : vv_G} (hG : vv_gok G) : vv_fld G RX4 137 3 20 := ⟨RX4, TX4, 63, by rw [hG.1]; rfl, in_X4, by decide, q1586⟩
theorem pt_X4_137 {G : vv_G} (hG : vv_gok G) : vv_put G RX4 137 3 20 .int none := ⟨RX4, TX4, 63, tyX4, by rw [hG.1]; rfl, in_X4, tyX4_ok, nmX4, by decide, tyX4_ok 20 (by decide), q1586, Or.inl rfl⟩
theorem fl_X4_140 {G : vv_G} (hG : vv_gok G) : vv_fld G RX4 140 3 24 := ⟨RX4, TX4, 63, by rw [hG.1]; rfl, in_X4, by decide, q1590⟩
theorem pt_X4_140 {G : vv_G} (hG : vv_gok G) : vv_put G RX4 140 3 24 .long none := ⟨RX4, TX4, 63, tyX4, by rw [hG.1]; rfl, in_X4, tyX4_ok, nmX4, by decide, tyX4_ok 24 (by decide), q1590, Or.inl rfl⟩
theorem fl_X4_144 {G : vv_G} (hG : vv_gok G) : vv_fld G RX4 144 3 22 := ⟨RX4, TX4, 63, by rw [hG.1]; rfl, in_X4, by decide, q1588⟩
theorem pt_X4_144 {G : vv_G} (hG : vv_gok G) : vv_put G RX4 144 3 22 .int none := ⟨RX4, TX4, 63, tyX4, by rw [hG.1]; rfl, in_X4, tyX4_ok, nmX4, by decide, tyX4_ok 22 (by decide), q1588, Or.inl rfl⟩
theorem fl_X4_147 {G : vv_G} (hG : vv_gok G) : vv_fld G RX4 147 3 23 := ⟨RX4, TX4, 63, by rw [hG.1]; rfl, in_X4, by decide, q1589⟩
theorem pt_X4_147 {G : vv_G} (hG : vv_gok G) : vv_put G RX4 147 3 23 .int none := ⟨RX4, TX4, 63, tyX4, by rw [hG.1]; rfl, in_X4, tyX4_ok, nmX4, by decide, tyX4_ok 23 (by decide), q1589, Or.inl rfl⟩
theorem fl_X4_150 {G : vv_G} (hG : vv_gok G) : vv_fld G RX4 150 3 19 := ⟨RX4, TX4, 63, by rw [hG.1]; rfl, in_X4, by decide, q1585⟩
theorem pt_X4_150 {G : vv_G} (hG : vv_gok G) : vv_put G RX4 150 3 19 .int none := ⟨RX4, TX4, 63, tyX4, by rw [hG.1]; rfl, in_X4, tyX4_ok, nmX4, by decide, tyX4_ok 19 (by decide), q1585, Or.inl rfl⟩
theorem fl_X4_160 {G : vv_G} (hG : vv_gok G) : vv_fld G RX4 160 3 21 := ⟨RX4, TX4, 63, by rw [hG.1]; rfl, in_X4, by decide, q1587⟩
theorem pt_X4_160 {G : vv_G} (hG : vv_gok G) : vv_put G RX4 160 3 21 .int none := ⟨RX4, TX4, 63, tyX4, by rw [hG.1]; rfl, in_X4, tyX4_ok, nmX4, by decide, tyX4_ok 21 (by decide), q1587, Or.inl rfl⟩
theorem fl_X4_173 {G : vv_G} (hG : vv_gok G) : vv_fld G RX4 173 3 14 := ⟨RX4, TX4, 63, by rw [hG.1]; rfl, in_X4, by decide, q1580⟩
theorem pt_X4_173 {G : vv_G} (hG : vv_gok G) : vv_put G RX4 173 3 14 .int none := ⟨RX4, TX4, 63, tyX4, by rw [hG.1]; rfl, in_X4, tyX4_ok, nmX4, by decide, tyX4_ok 14 (by decide), q1580, Or.inl rfl⟩
theorem fl_X4_189 {G : vv_G} (hG : vv_gok G) : vv_fld G RX4 189 3 29 := ⟨RX4, TX4, 63, by rw [hG.1]; rfl, in_X4, by decide, q1595⟩
theorem pt_X4_189 {G : vv_G} (hG : vv_gok G) : vv_put G RX4 189 3 29 .int none := ⟨RX4, TX4, 63, tyX4, by rw [hG.1]; rfl, in_X4, tyX4_ok, nmX4, by decide, tyX4_ok 29 (by decide), q1595, Or.inl rfl⟩
theorem fl_X4_192 {G : vv_G} (hG : vv_gok G) : vv_fld G RX4 192 3 30 := ⟨RX4, TX4, 63, by rw [hG.1]; rfl, in_X4, by decide, q1596⟩
theorem pt_X4_192 {G : vv_G} (hG : vv_gok G) : vv_put G RX4 192 3 30 .int none := ⟨RX4, TX4, 63, tyX4, by rw [hG.1]; rfl, in_X4, tyX4_ok, nmX4, by decide, tyX4_ok 30 (by decide), q1596, Or.inl rfl⟩
theorem fl_X4_208 {G : vv_G} (hG : vv_gok G) : vv_fld G RX4 208 3 31 := ⟨RX4, TX4, 63, by rw [hG.1]; rfl, in_X4, by decide, q1597⟩
theorem pt_X4_208 {G : vv_G} (hG : vv_gok G) : vv_put G RX4 208 3 31 .int none := ⟨RX4, TX4, 63, tyX4, by rw [hG.1]; rfl, in_X4, tyX4_ok, nmX4, by decide, tyX4_ok 31 (by decide), q1597, Or.inl rfl⟩
theorem fl_X4_236 {G : vv_G} (hG : vv_gok G) : vv_fld G RX4 236 3 25 := ⟨RX4, TX4, 63, by rw [hG.1]; rfl, in_X4, by decide, q1591⟩
theorem pt_X4_236 {G : vv_G} (hG : vv_gok G) : vv_put G RX4 236 3 25 .int none := ⟨RX4, TX4, 63, tyX4, by rw [hG.1]; rfl, in_X4, tyX4_ok, nmX4, by decide, tyX4_ok 25 (by decide), q1591, Or.inl rfl⟩
theorem fl_X4_243 {G : vv_G} (hG : vv_gok G) : vv_fld G RX4 243 3 26 := ⟨RX4, TX4, 63, by rw [hG.1]; rfl, in_X4, by decide, q1592⟩
theorem pt_X4_243 {G : vv_G} (hG : vv_gok G) : vv_put G RX4 243 3 26 .int none := ⟨RX4, TX4, 63, tyX4, by rw [hG.1]; rfl, in_X4, tyX4_ok, nmX4, by decide, tyX4_ok 26 (by decide), q1592, Or.inl rfl⟩
theorem fl_X4_253 {G : vv_G} (hG : vv_gok G) : vv_fld G RX4 253 3 27 := ⟨RX4, TX4, 63, by rw [hG.1]; rfl, in_X4, by decide, q1593⟩
theorem pt_X4_253 {G : vv_G} (hG : vv_gok G) : vv_put G RX4 253 3 27 .int none := ⟨RX4, TX4, 63, tyX4, by rw [hG.1]; rfl, in_X4, tyX4_ok, nmX4, by decide, tyX4_ok 27 (by decide), q1593, Or.inl rfl⟩
theorem fl_X4_265 {G : vv_G} (hG : vv_gok G) : vv_fld G RX4 265 3 28 := ⟨RX4, TX4, 63, by rw [hG.1]; rfl, in_X4, by decide, q1594⟩
theorem pt_X4_265 {G : vv_G} (hG : vv_gok G) : vv_put G RX4 265 3 28 .int none := ⟨RX4, TX4, 63, tyX4, by rw [hG.1]; rfl, in_X4, tyX4_ok, nmX4, by decide, tyX4_ok 28 (by decide), q1594, Or.inl rfl⟩
theorem fl_X4_281 {G : vv_G} (hG : vv_gok G) : vv_fld G RX4 281 3 1 := ⟨RX4, TX4, 63, by rw [hG.1]; rfl, in_X4, by decide, q1567⟩
theorem pt_X4_281 {G : vv_G} (hG : vv_gok G) : vv_put G RX4 281 3 1 .int none := ⟨RX4, TX4, 63, tyX4, by rw [hG.1]; rfl, in_X4, tyX4_ok, nmX4, by decide, tyX4_ok 1 (by decide), q1567, Or.inl rfl⟩
theorem fl_X4_284 {G : vv_G} (hG : vv_gok G) : vv_fld G RX4 284 3 2 := ⟨RX4, TX4, 63, by rw [hG.1]; rfl, in_X4, by decide, q1568⟩
theorem pt_X4_284 {G : vv_G} (hG : vv_gok G) : vv_put G RX4 284 3 2 .int none := ⟨RX4, TX4, 63, tyX4, by rw [hG.1]; rfl, in_X4, tyX4_ok, nmX4, by decide, tyX4_ok 2 (by decide), q1568, Or.inl rfl⟩
theorem fl_X4_287 {G : vv_G} (hG : vv_gok G) : vv_fld G RX4 287 3 3 := ⟨RX4, TX4, 63, by rw [hG.1]; rfl, in_X4, by decide, q1569⟩
theorem pt_X4_287 {G : vv_G} (hG : vv_gok G) : vv_put G RX4 287 3 3 .int none := ⟨RX4, TX4, 63, tyX4, by rw [hG.1]; rfl, in_X4, tyX4_ok, nmX4, by decide, tyX4_ok 3 (by decide), q1569, Or.inl rfl⟩
theorem fl_X4_294 {G : vv_G} (hG : vv_gok G) : vv_fld G RX4 294 3 44 := ⟨RX4, TX4, 63, by rw [hG.1]; rfl, in_X4, by decide, q1610⟩
theorem pt_X4_294 {G : vv_G} (hG : vv_gok G) : vv_put G RX4 294 3 44 .int none := ⟨RX4, TX4, 63, tyX4, by rw [hG.1]; rfl, in_X4, tyX4_ok, nmX4, by decide, tyX4_ok 44 (by decide), q1610, Or.inl rfl⟩
theorem fl_X4_297 {G : vv_G} (hG : vv_gok G) : vv_fld G RX4 297 3 52 := ⟨RX4, TX4, 63, by rw [hG.1]; rfl, in_X4, by decide, q1618⟩
theorem pt_X4_297 {G : vv_G} (hG : vv_gok G) : vv_put G RX4 297 3 52 .int none := ⟨RX4, TX4, 63, tyX4, by rw [hG.1]; rfl, in_X4, tyX4_ok, nmX4, by decide, tyX4_ok 52 (by decide), q1618, Or.inl rfl⟩
theorem fl_X4_300 {G : vv_G} (hG : vv_gok G) : vv_fld G RX4 300 3 57 := ⟨RX4, TX4, 63, by rw [hG.1]; rfl, in_X4, by decide, q1623⟩
theorem pt_X4_300 {G : vv_G} (hG : vv_gok G) : vv_put G RX4 300 3 57 .boolean none := ⟨RX4, TX4, 63, tyX4, by rw [hG.1]; rfl, in_X4, tyX4_ok, nmX4, by decide, tyX4_ok 57 (by decide), q1623, Or.inl rfl⟩
theorem fl_X4_329 {G : vv_G} (hG : vv_gok G) : vv_fld G RX4 329 3 47 := ⟨RX4, TX4, 63, by rw [hG.1]; rfl, in_X4, by decide, q1613⟩
theorem pt_X4_329 {G : vv_G} (hG : vv_gok G) : vv_put G RX4 329 3 47 .int none := ⟨RX4, TX4, 63, tyX4, by rw [hG.1]; rfl, in_X4, tyX4_ok, nmX4, by decide, tyX4_ok 47 (by decide), q1613, Or.inl rfl⟩
theorem fl_X4_430 {G : vv_G} (hG : vv_gok G) : vv_fld G RX4 430 3 56 := ⟨RX4, TX4, 63, by rw [hG.1]; rfl, in_X4, by decide, q1622⟩
theorem pt_X4_430 {G : vv_G} (hG : vv_gok G) : vv_put G RX4 430 3 56 .int none := ⟨RX4, TX4, 63, tyX4, by rw [hG.1]; rfl, in_X4, tyX4_ok, nmX4, by decide, tyX4_ok 56 (by decide), q1622, Or.inl rfl⟩
theorem fl_X4_446 {G : vv_G} (hG : vv_gok G) : vv_fld G RX4 446 3 58 := ⟨RX4, TX4, 63, by rw [hG.1]; rfl, in_X4, by decide, q1624⟩
theorem pt_X4_446 {G : vv_G} (hG : vv_gok G) : vv_put G RX4 446 3 58 .int none := ⟨RX4, TX4, 63, tyX4, by rw [hG.1]; rfl, in_X4, tyX4_ok, nmX4, by decide, tyX4_ok 58 (by decide), q1624, Or.inl rfl⟩
theorem fl_X4_449 {G : vv_G} (hG : vv_gok G) : vv_fld G RX4 449 3 59 := ⟨RX4, TX4, 63, by rw [hG.1]; rfl, in_X4, by decide, q1625⟩
theorem pt_X4_449 {G : vv_G} (hG : vv_gok G) : vv_put G RX4 449 3 59 .int none := ⟨RX4, TX4, 63, tyX4, by rw [hG.1]; rfl, in_X4, tyX4_ok, nmX4, by decide, tyX4_ok 59 (by decide), q1625, Or.inl rfl⟩
abbrev MX4_init : vv_M := (yX4_init, cX4_init, 1, none, [])
theorem ok_X4_init : vv_okI MX4_init 0 := ⟨rfl, by decide, rfl, rfl, q1563, q115, q1564, ⟨by decide, by decide, by decide +kernel⟩⟩
abbrev MX4_thrown : vv_M := (yX4_thrown, cX4_thrown, 1, (some .int), [])
theorem ok_X4_thrown : vv_okV MX4_thrown 0 := ⟨rfl, by decide, q1758, q1759, q115, q1760, ⟨by decide, by decide, by decide +kernel⟩⟩
abbrev MX4_feed : vv_M := (yX4_feed, cX4_feed, 6, (some .int), [])
theorem ok_X4_feed : vv_okV MX4_feed 5 := ⟨rfl, by decide, q1762, q1763, q115, q1764, ⟨by decide, by decide, by decide +kernel⟩⟩
abbrev MX4_lays : vv_M := (yX4_lays, cX4_lays, 3, none, [])
theorem ok_X4_lays : vv_okV MX4_lays 1 := ⟨rfl, by decide, q1767, qs45, q115, q1768, ⟨by decide, by decide, by decide +kernel⟩⟩
abbrev MX4_province : vv_M := (yX4_province, cX4_province, 3, (some .int), [])
theorem ok_X4_province : vv_okV MX4_province 1 := ⟨rfl, by decide, q1770, q1771, q115, q1772, ⟨by decide, by decide, by decide +kernel⟩⟩
abbrev MX4_right : vv_M := (yX4_right, cX4_right, 3, (some .boolean), [])
theorem ok_X4_right : vv_okV MX4_right 2 := ⟨rfl, by decide, q1775, qs46, q115, q1776, ⟨by decide, by decide, by decide +kernel⟩⟩
abbrev MX4_goes : vv_M := (yX4_goes, cX4_goes, 2, none, [])
theorem ok_X4_goes : vv_okV MX4_goes 0 := ⟨rfl, by decide, q1779, qs47, q115, q1780, ⟨by decide, by decide, by decide +kernel⟩⟩
abbrev MX4_byteAt : vv_M := (yX4_byteAt, cX4_byteAt, 2, (some .int), [])
theorem ok_X4_byteAt : vv_okV MX4_byteAt 1 := ⟨rfl, by decide, q1783, qs48, q115, q1784, ⟨by decide, by decide, by decide +kernel⟩⟩
abbrev MX4_isLetter : vv_M := (yX4_isLetter, cX4_isLetter, 1, (some .boolean), [])
theorem ok_X4_isLetter : vv_okS MX4_isLetter 1 := ⟨rfl, by decide, q1786, q115, q1787, ⟨by decide, by decide, by decide +kernel⟩⟩
abbrev MX4_isDigit : vv_M := (yX4_isDigit, cX4_isDigit, 1, (some .boolean), [])
theorem ok_X4_isDigit : vv_okS MX4_isDigit 1 := ⟨rfl, by decide, q1789, q115, q1790, ⟨by decide, by decide, by decide +kernel⟩⟩
abbrev MX4_isGood : vv_M := (yX4_isGood, cX4_isGood, 1, (some .boolean), [])
theorem ok_X4_isGood : vv_okV MX4_isGood 0 := ⟨rfl, by decide, q1793, qs49, q115, q1794, ⟨by decide, by decide, by decide +kernel⟩⟩
abbrev MX4_line : vv_M := (yX4_line, cX4_line, 2, none, [])
theorem ok_X4_line : vv_okV MX4_line 0 := ⟨rfl, by decide, q1797, qs50, q115, q1798, ⟨by decide, by decide, by decide +kernel⟩⟩
abbrev MX4_knownWord : vv_M := (yX4_knownWord, cX4_knownWord, 2, (some .int), [])
theorem ok_X4_knownWord : vv_okV MX4_knownWord 0 := ⟨rfl, by decide, q1801, qs51, q115, q1802, ⟨by decide, by decide, by decide +kernel⟩⟩
abbrev MX4_letters : vv_M := (yX4_letters, cX4_letters, 1, (some .long), [])
theorem ok_X4_letters : vv_okS MX4_letters 1 := ⟨rfl, by decide, q1804, q115, q1805, ⟨by decide, by decide, by decide +kernel⟩⟩
abbrev MX4_spelled : vv_M := (yX4_spelled, cX4_spelled, 9, (some .long), [])
theorem ok_X4_spelled : vv_okS MX4_spelled 7 := ⟨rfl, by decide, q1807, q115, q1808, ⟨by decide, by decide, by decide +kernel⟩⟩
abbrev MX4_readsTown : vv_M := (yX4_readsTown, cX4_readsTown, 2, none, [])
theorem ok_X4_readsTown : vv_okV MX4_readsTown 0 := ⟨rfl, by decide, q1812, qs52, q115, q1813, ⟨by decide, by decide, by decide +kernel⟩⟩
abbrev MX4_wrong : vv_M := (yX4_wrong, cX4_wrong, 2, none, [])
theorem ok_X4_wrong : vv_okV MX4_wrong 1 := ⟨rfl, by decide, q1816, qs53, q115, q1817, ⟨by decide, by decide, by decide +kernel⟩⟩
abbrev MX4_number : vv_M := (yX4_number, cX4_number, 4, (some .int), [])
theorem ok_X4_number : vv_okV MX4_number 2 := ⟨rfl, by decide, q1820, qs54, q115, q1821, ⟨by decide, by decide, by decide +kernel⟩⟩
abbrev MX4_readsWay : vv_M := (yX4_readsWay, cX4_readsWay, 2, none, [])
theorem ok_X4_readsWay : vv_okV MX4_readsWay 0 := ⟨rfl, by decide, q1824, qs55, q115, q1825, ⟨by decide, by decide, by decide +kernel⟩⟩
abbrev MX4_among : vv_M := (yX4_among, cX4_among, 3, (some .int), [])
theorem ok_X4_among : vv_okV MX4_among 1 := ⟨rfl, by decide, q1828, qs56, q115, q1829, ⟨by decide, by decide, by decide +kernel⟩⟩
abbrev MX4_amongHere : vv_M := (yX4_amongHere, cX4_amongHere, 2, (some .boolean), [])
theorem ok_X4_amongHere : vv_okV MX4_amongHere 1 := ⟨rfl, by decide, q1832, qs57, q115, q1833, ⟨by decide, by decide, by decide +kernel⟩⟩
abbrev MX4_hasWay : vv_M := (yX4_hasWay, cX4_hasWay, 4, (some .boolean), [])
theorem ok_X4_hasWay : vv_okV MX4_hasWay 2 := ⟨rfl, by decide, q1836, qs58, q115, q1837, ⟨by decide, by decide, by decide +kernel⟩⟩
abbrev MX4_readsCrate : vv_M := (yX4_readsCrate, cX4_readsCrate, 3, none, [])
theorem ok_X4_readsCrate : vv_okV MX4_readsCrate 1 := ⟨rfl, by decide, q1840, qs59, q115, q1841, ⟨by decide, by decide, by decide +kernel⟩⟩
abbrev MX4_expression : vv_M := (yX4_expression, cX4_expression, 3, none, [])
theorem ok_X4_expression : vv_okV MX4_expression 0 := ⟨rfl, by decide, q1844, qs60, q115, q1845, ⟨by decide, by decide, by decide +kernel⟩⟩
abbrev MX4_deeper : vv_M := (yX4_deeper, cX4_deeper, 1, none, [])
theorem ok_X4_deeper : vv_okV MX4_deeper 0 := ⟨rfl, by decide, q1848, qs61, q115, q1849, ⟨by decide, by decide, by decide +kernel⟩⟩
abbrev MX4_isSign : vv_M := (yX4_isSign, cX4_isSign, 2, (some .boolean), [])
theorem ok_X4_isSign : vv_okV MX4_isSign 1 := ⟨rfl, by decide, q1852, qs62, q115, q1853, ⟨by decide, by decide, by decide +kernel⟩⟩
abbrev MX4_operand : vv_M := (yX4_operand, cX4_operand, 5, none, [])
theorem ok_X4_operand : vv_okV MX4_operand 1 := ⟨rfl, by decide, q1856, qs63, q115, q1857, ⟨by decide, by decide, by decide +kernel⟩⟩
abbrev MX4_waitsFor : vv_M := (yX4_waitsFor, cX4_waitsFor, 2, none, [])
theorem ok_X4_waitsFor : vv_okV MX4_waitsFor 1 := ⟨rfl, by decide, q1860, qs64, q115, q1861, ⟨by decide, by decide, by decide +kernel⟩⟩
abbrev MX4_part : vv_M := (yX4_part, cX4_part, 2, none, [])
theorem ok_X4_part : vv_okV MX4_part 0 := ⟨rfl, by decide, q1864, qs65, q115, q1865, ⟨by decide, by decide, by decide +kernel⟩⟩
abbrev MX4_puts : vv_M := (yX4_puts, cX4_puts, 2, none, [])
theorem ok_X4_puts : vv_okV MX4_puts 1 := ⟨rfl, by decide, q1868, qs66, q115, q1869, ⟨by decide, by decide, by decide +kernel⟩⟩
abbrev MX4_drops : vv_M := (yX4_drops, cX4_drops, 2, none, [])
theorem ok_X4_drops : vv_okV MX4_drops 1 := ⟨rfl, by decide, q1872, qs67, q115, q1873, ⟨by decide, by decide, by decide +kernel⟩⟩
abbrev MX4_isOpen : vv_M := (yX4_isOpen, cX4_isOpen, 1, (some .boolean), [])
theorem ok_X4_isOpen : vv_okS MX4_isOpen 1 := ⟨rfl, by decide, q1875, q115, q1876, ⟨by decide, by decide, by decide +kernel⟩⟩
abbrev MX4_strength : vv_M := (yX4_strength, cX4_strength, 1, (some .int), [])
theorem ok_X4_strength : vv_okS MX4_strength 1 := ⟨rfl, by decide, q1878, q115, q1879, ⟨by decide, by decide, by decide +kernel⟩⟩
abbrev MX4_isOpened : vv_M := (yX4_isOpened, cX4_isOpened, 2, (some .boolean), [])
theorem ok_X4_isOpened : vv_okV MX4_isOpened 0 := ⟨rfl, by decide, q1882, qs68, q115, q1883, ⟨by decide, by decide, by decide +kernel⟩⟩
abbrev MX4_closes : vv_M := (yX4_closes, cX4_closes, 1, none, [])
theorem ok_X4_closes : vv_okV MX4_closes 0 := ⟨rfl, by decide, q1886, qs69, q115, q1887, ⟨by decide, by decide, by decide +kernel⟩⟩
abbrev MX4_need : vv_M := (yX4_need, cX4_need, 2, none, [])
theorem ok_X4_need : vv_okV MX4_need 1 := ⟨rfl, by decide, q1890, qs70, q115, q1891, ⟨by decide, by decide, by decide +kernel⟩⟩
abbrev MX4_copies : vv_M := (yX4_copies, cX4_copies, 4, none, [])
theorem ok_X4_copies : vv_okV MX4_copies 2 := ⟨rfl, by decide, q1894, qs71, q115, q1895, ⟨by decide, by decide, by decide +kernel⟩⟩
abbrev MX4_fault : vv_M := (yX4_fault, cX4_fault, 1, (some .int), [])
theorem ok_X4_fault : vv_okV MX4_fault 0 := ⟨rfl, by decide, q1897, q1898, q115, q1899, ⟨by decide, by decide, by decide +kernel⟩⟩
abbrev MX4_undo : vv_M := (yX4_undo, cX4_undo, 2, (some .int), [])
theorem ok_X4_undo : vv_okV MX4_undo 0 := ⟨rfl, by decide, q1901, q1902, q115, q1903, ⟨by decide, by decide, by decide +kernel⟩⟩
abbrev MX4_count : vv_M := (yX4_count, cX4_count, 2, (some .int), [])
theorem ok_X4_count : vv_okV MX4_count 1 := ⟨rfl, by decide, q1905, q1906, q115, q1907, ⟨by decide, by decide, by decide +kernel⟩⟩
abbrev MX4_within : vv_M := (yX4_within, cX4_within, 3, (some .boolean), [])
theorem ok_X4_within : vv_okS MX4_within 3 := ⟨rfl, by decide, q1909, q115, q1910, ⟨by decide, by decide, by decide +kernel⟩⟩
abbrev MX4_allOf : vv_M := (yX4_allOf, cX4_allOf, 4, (some .int), [])
theorem ok_X4_allOf : vv_okV MX4_allOf 1 := ⟨rfl, by decide, q1913, qs72, q115, q1914, ⟨by decide, by decide, by decide +kernel⟩⟩
abbrev MX4_lyingAll : vv_M := (yX4_lyingAll, cX4_lyingAll, 3, (some .int), [])
theorem ok_X4_lyingAll : vv_okV MX4_lyingAll 0 := ⟨rfl, by decide, q1917, qs73, q115, q1918, ⟨by decide, by decide, by decide +kernel⟩⟩
abbrev MX4_lies : vv_M := (yX4_lies, cX4_lies, 3, (some .boolean), [])
theorem ok_X4_lies : vv_okV MX4_lies 2 := ⟨rfl, by decide, q1921, qs74, q115, q1922, ⟨by decide, by decide, by decide +kernel⟩⟩
abbrev MX4_goingAll : vv_M := (yX4_goingAll, cX4_goingAll, 3, (some .int), [])
theorem ok_X4_goingAll : vv_okV MX4_goingAll 0 := ⟨rfl, by decide, q1925, qs75, q115, q1926, ⟨by decide, by decide, by decide +kernel⟩⟩
abbrev MX4_goneIn : vv_M := (yX4_goneIn, cX4_goneIn, 4, (some .int), [])
theorem ok_X4_goneIn : vv_okV MX4_goneIn 1 := ⟨rfl, by decide, q1929, qs76, q115, q1930, ⟨by decide, by decide, by decide +kernel⟩⟩
abbrev MX4_town : vv_M := (yX4_town, cX4_town, 3, (some .int), [])
theorem ok_X4_town : vv_okV MX4_town 2 := ⟨rfl, by decide, q1932, q1933, q115, q1934, ⟨by decide, by decide, by decide +kernel⟩⟩
abbrev MX4_isTown : vv_M := (yX4_isTown, cX4_isTown, 2, (some .boolean), [])
theorem ok_X4_isTown : vv_okV MX4_isTown 1 := ⟨rfl, by decide, q1937, qs77, q115, q1938, ⟨by decide, by decide, by decide +kernel⟩⟩
abbrev MX4_isWhat : vv_M := (yX4_isWhat, cX4_isWhat, 3, (some .boolean), [])
theorem ok_X4_isWhat : vv_okV MX4_isWhat 2 := ⟨rfl, by decide, q1941, qs78, q115, q1942, ⟨by decide, by decide, by decide +kernel⟩⟩
abbrev MX4_oddsOf : vv_M := (yX4_oddsOf, cX4_oddsOf, 5, (some .int), [])
theorem ok_X4_oddsOf : vv_okV MX4_oddsOf 2 := ⟨rfl, by decide, q1945, qs79, q115, q1946, ⟨by decide, by decide, by decide +kernel⟩⟩
abbrev MX4_kept : vv_M := (yX4_kept, cX4_kept, 3, (some .int), [])
theorem ok_X4_kept : vv_okS MX4_kept 3 := ⟨rfl, by decide, q1948, q115, q1949, ⟨by decide, by decide, by decide +kernel⟩⟩
abbrev MX4_lyingIn : vv_M := (yX4_lyingIn, cX4_lyingIn, 5, (some .int), [])
theorem ok_X4_lyingIn : vv_okV MX4_lyingIn 2 := ⟨rfl, by decide, q1952, qs80, q115, q1953, ⟨by decide, by decide, by decide +kernel⟩⟩
abbrev MX4_bits : vv_M := (yX4_bits, cX4_bits, 3, (some .int), [])
theorem ok_X4_bits : vv_okS MX4_bits 1 := ⟨rfl, by decide, q1955, q115, q1956, ⟨by decide, by decide, by decide +kernel⟩⟩
abbrev MX4_reckons : vv_M := (yX4_reckons, cX4_reckons, 5, (some .int), [])
theorem ok_X4_reckons : vv_okV MX4_reckons 1 := ⟨rfl, by decide, q1959, qs81, q115, q1960, ⟨by decide, by decide, by decide +kernel⟩⟩
abbrev MX4_works : vv_M := (yX4_works, cX4_works, 3, (some .int), [])
theorem ok_X4_works : vv_okS MX4_works 3 := ⟨rfl, by decide, q1962, q115, q1963, ⟨by decide, by decide, by decide +kernel⟩⟩
abbrev MX4_crate : vv_M := (yX4_crate, cX4_crate, 3, (some .int), [])
theorem ok_X4_crate : vv_okV MX4_crate 2 := ⟨rfl, by decide, q1965, q1966, q115, q1967, ⟨by decide, by decide, by decide +kernel⟩⟩
abbrev MX4_isCrate : vv_M := (yX4_isCrate, cX4_isCrate, 2, (some .boolean), [])
theorem ok_X4_isCrate : vv_okV MX4_isCrate 1 := ⟨rfl, by decide, q1970, qs82, q115, q1971, ⟨by decide, by decide, by decide +kernel⟩⟩
abbrev MX4_days : vv_M := (yX4_days, cX4_days, 3, (some .int), [])
theorem ok_X4_days : vv_okV MX4_days 1 := ⟨rfl, by decide, q1973, q1974, q115, q1975, ⟨by decide, by decide, by decide +kernel⟩⟩
abbrev MX4_refuses : vv_M := (yX4_refuses, cX4_refuses, 2, (some .int), [])
theorem ok_X4_refuses : vv_okV MX4_refuses 1 := ⟨rfl, by decide, q1978, qs83, q115, q1979, ⟨by decide, by decide, by decide +kernel⟩⟩
abbrev MX4_keeps : vv_M := (yX4_keeps, cX4_keeps, 2, none, [])
theorem ok_X4_keeps : vv_okV MX4_keeps 0 := ⟨rfl, by decide, q1982, qs84, q115, q1983, ⟨by decide, by decide, by decide +kernel⟩⟩
abbrev MX4_dayGoes : vv_M := (yX4_dayGoes, cX4_dayGoes, 4, none, [])
theorem ok_X4_dayGoes : vv_okV MX4_dayGoes 1 := ⟨rfl, by decide, q1986, qs85, q115, q1987, ⟨by decide, by decide, by decide +kernel⟩⟩
abbrev MX4_cratesGo : vv_M := (yX4_cratesGo, cX4_cratesGo, 3, none, [])
theorem ok_X4_cratesGo : vv_okV MX4_cratesGo 1 := ⟨rfl, by decide, q1990, qs86, q115, q1991, ⟨by decide, by decide, by decide +kernel⟩⟩
abbrev MX4_makesLuck : vv_M := (yX4_makesLuck, cX4_makesLuck, 3, none, [])
theorem ok_X4_makesLuck : vv_okV MX4_makesLuck 2 := ⟨rfl, by decide, q1994, qs87, q115, q1995, ⟨by decide, by decide, by decide +kernel⟩⟩
abbrev MX4_stakes : vv_M := (yX4_stakes, cX4_stakes, 5, none, [])
theorem ok_X4_stakes : vv_okV MX4_stakes 3 := ⟨rfl, by decide, q1998, qs88, q115, q1999, ⟨by decide, by decide, by decide +kernel⟩⟩
abbrev MX4_lesser : vv_M := (yX4_lesser, cX4_lesser, 2, (some .int), [])
theorem ok_X4_lesser : vv_okS MX4_lesser 2 := ⟨rfl, by decide, q2001, q115, q2002, ⟨by decide, by decide, by decide +kernel⟩⟩
abbrev MX4_send : vv_M := (yX4_send, cX4_send, 3, (some .int), [])
theorem ok_X4_send : vv_okV MX4_send 2 := ⟨rfl, by decide, q2004, q2005, q115, q2006, ⟨by decide, by decide, by decide +kernel⟩⟩
abbrev MX4_isWay : vv_M := (yX4_isWay, cX4_isWay, 2, (some .boolean), [])
theorem ok_X4_isWay : vv_okV MX4_isWay 1 := ⟨rfl, by decide, q2009, qs89, q115, q2010, ⟨by decide, by decide, by decide +kernel⟩⟩
abbrev MX4_leads : vv_M := (yX4_leads, cX4_leads, 3, (some .int), [])
theorem ok_X4_leads : vv_okV MX4_leads 2 := ⟨rfl, by decide, q2013, qs90, q115, q2014, ⟨by decide, by decide, by decide +kernel⟩⟩
abbrev MX4_open : vv_M := (yX4_open, cX4_open, 3, (some .int), [])
theorem ok_X4_open : vv_okV MX4_open 1 := ⟨rfl, by decide, q2016, q2017, q115, q2018, ⟨by decide, by decide, by decide +kernel⟩⟩
abbrev MX4_opens : vv_M := (yX4_opens, cX4_opens, 4, none, [])
theorem ok_X4_opens : vv_okV MX4_opens 2 := ⟨rfl, by decide, q2021, qs91, q115, q2022, ⟨by decide, by decide, by decide +kernel⟩⟩
abbrev MX4_cat : vv_M := (yX4_cat, cX4_cat, 4, (some .boolean), [])
theorem ok_X4_cat : vv_okV MX4_cat 2 := ⟨rfl, by decide, q2024, q2025, q115, q2026, ⟨by decide, by decide, by decide +kernel⟩⟩
abbrev MX4_mix : vv_M := (yX4_mix, cX4_mix, 6, (some .int), [])
theorem ok_X4_mix : vv_okV MX4_mix 2 := ⟨rfl, by decide, q2028, q2029, q115, q2030, ⟨by decide, by decide, by decide +kernel⟩⟩
abbrev MX4_then : vv_M := (yX4_then, cX4_then, 4, (some .int), [])
theorem ok_X4_then : vv_okV MX4_then 3 := ⟨rfl, by decide, q2032, q2033, q115, q2034, ⟨by decide, by decide, by decide +kernel⟩⟩
abbrev MX4_isDays : vv_M := (yX4_isDays, cX4_isDays, 4, (some .boolean), [])
theorem ok_X4_isDays : vv_okV MX4_isDays 3 := ⟨rfl, by decide, q2037, qs92, q115, q2038, ⟨by decide, by decide, by decide +kernel⟩⟩
abbrev MX4_tries : vv_M := (yX4_tries, cX4_tries, 2, none, [])
theorem ok_X4_tries : vv_okV MX4_tries 0 := ⟨rfl, by decide, q2041, qs93, q115, q2042, ⟨by decide, by decide, by decide +kernel⟩⟩
abbrev MX4_daysGo : vv_M := (yX4_daysGo, cX4_daysGo, 3, none, [])
theorem ok_X4_daysGo : vv_okV MX4_daysGo 1 := ⟨rfl, by decide, q2045, qs94, q115, q2046, ⟨by decide, by decide, by decide +kernel⟩⟩
abbrev MX4_even : vv_M := (yX4_even, cX4_even, 3, (some .int), [])
theorem ok_X4_even : vv_okV MX4_even 1 := ⟨rfl, by decide, q2048, q2049, q115, q2050, ⟨by decide, by decide, by decide +kernel⟩⟩
abbrev MX4_out : vv_M := (yX4_out, cX4_out, 3, (some .int), [])
theorem ok_X4_out : vv_okV MX4_out 1 := ⟨rfl, by decide, q2052, q2053, q115, q2054, ⟨by decide, by decide, by decide +kernel⟩⟩
abbrev MX4_luckiest : vv_M := (yX4_luckiest, cX4_luckiest, 4, (some .int), [])
theorem ok_X4_luckiest : vv_okV MX4_luckiest 1 := ⟨rfl, by decide, q2056, q2057, q115, q2058, ⟨by decide, by decide, by decide +kernel⟩⟩
abbrev MX4_streak : vv_M := (yX4_streak, cX4_streak, 6, (some .int), [])
theorem ok_X4_streak : vv_okV MX4_streak 2 := ⟨rfl, by decide, q2060, q2061, q115, q2062, ⟨by decide, by decide, by decide +kernel⟩⟩
abbrev MX4_day : vv_M := (yX4_day, cX4_day, 8, (some .int), [])
theorem ok_X4_day : vv_okV MX4_day 2 := ⟨rfl, by decide, q2064, q2065, q115, q2066, ⟨by decide, by decide, by decide +kernel⟩⟩
abbrev MX4_far : vv_M := (yX4_far, cX4_far, 3, (some .int), [])
theorem ok_X4_far : vv_okV MX4_far 2 := ⟨rfl, by decide, q2068, q2069, q115, q2070, ⟨by decide, by decide, by decide +kernel⟩⟩
abbrev MX4_measures : vv_M := (yX4_measures, cX4_measures, 5, none, [])
theorem ok_X4_measures : vv_okV MX4_measures 1 := ⟨rfl, by decide, q2073, qs95, q115, q2074, ⟨by decide, by decide, by decide +kernel⟩⟩
abbrev MX4_orNone : vv_M := (yX4_orNone, cX4_orNone, 1, (some .int), [])
theorem ok_X4_orNone : vv_okS MX4_orNone 1 := ⟨rfl, by decide, q2077, q115, q2078, ⟨by decide, by decide, by decide +kernel⟩⟩
abbrev MX4_leak : vv_M := (yX4_leak, cX4_leak, 3, (some .int), [])
theorem ok_X4_leak : vv_okV MX4_leak 2 := ⟨rfl, by decide, q2080, q2081, q115, q2082, ⟨by decide, by decide, by decide +kernel⟩⟩
abbrev MX4_sending : vv_M := (yX4_sending, cX4_sending, 8, (some .int), [])
theorem ok_X4_sending : vv_okV MX4_sending 2 := ⟨rfl, by decide, q2084, q2085, q115, q2086, ⟨by decide, by decide, by decide +kernel⟩⟩
abbrev MX4_comesTo : vv_M := (yX4_comesTo, cX4_comesTo, 5, (some .int), [])
theorem ok_X4_comesTo : vv_okV MX4_comesTo 2 := ⟨rfl, by decide, q2089, qs96, q115, q2090, ⟨by decide, by decide, by decide +kernel⟩⟩
abbrev MX4_row : vv_M := (yX4_row, cX4_row, 6, (some .int), [])
theorem ok_X4_row : vv_okV MX4_row 3 := ⟨rfl, by decide, q2092, q2093, q115, q2094, ⟨by decide, by decide, by decide +kernel⟩⟩
abbrev MX4_nextOn : vv_M := (yX4_nextOn, cX4_nextOn, 6, (some .int), [])
theorem ok_X4_nextOn : vv_okV MX4_nextOn 2 := ⟨rfl, by decide, q2097, qs97, q115, q2098, ⟨by decide, by decide, by decide +kernel⟩⟩
abbrev MX4_hub : vv_M := (yX4_hub, cX4_hub, 6, (some .int), [])
theorem ok_X4_hub : vv_okV MX4_hub 0 := ⟨rfl, by decide, q2100, q2101, q115, q2102, ⟨by decide, by decide, by decide +kernel⟩⟩
abbrev MX4_bridge : vv_M := (yX4_bridge, cX4_bridge, 2, (some .boolean), [])
theorem ok_X4_bridge : vv_okV MX4_bridge 1 := ⟨rfl, by decide, q2104, q2105, q115, q2106, ⟨by decide, by decide, by decide +kernel⟩⟩
abbrev MX4_spoilt : vv_M := (yX4_spoilt, cX4_spoilt, 4, (some .int), [])
theorem ok_X4_spoilt : vv_okV MX4_spoilt 0 := ⟨rfl, by decide, q2108, q2109, q115, q2110, ⟨by decide, by decide, by decide +kernel⟩⟩
abbrev MX4_hold : vv_M := (yX4_hold, cX4_hold, 12, (some .int), [])
theorem ok_X4_hold : vv_okV MX4_hold 2 := ⟨rfl, by decide, q2112, q2113, q115, q2114, ⟨by decide, by decide, by decide +kernel⟩⟩
abbrev MX4_laysHold : vv_M := (yX4_laysHold, cX4_laysHold, 6, none, [])
theorem ok_X4_laysHold : vv_okV MX4_laysHold 1 := ⟨rfl, by decide, q2117, qs98, q115, q2118, ⟨by decide, by decide, by decide +kernel⟩⟩
abbrev MX4_harms : vv_M := (yX4_harms, cX4_harms, 3, (some .int), [])
theorem ok_X4_harms : vv_okV MX4_harms 2 := ⟨rfl, by decide, q2121, qs99, q115, q2122, ⟨by decide, by decide, by decide +kernel⟩⟩
abbrev MX4_thrower : vv_M := (yX4_thrower, cX4_thrower, 8, (some .int), [])
theorem ok_X4_thrower : vv_okV MX4_thrower 4 := ⟨rfl, by decide, q2124, q2125, q115, q2126, ⟨by decide, by decide, by decide +kernel⟩⟩
abbrev MX4_power : vv_M := (yX4_power, cX4_power, 3, (some .int), [])
theorem ok_X4_power : vv_okS MX4_power 1 := ⟨rfl, by decide, q2128, q115, q2129, ⟨by decide, by decide, by decide +kernel⟩⟩
abbrev MX4_stop : vv_M := (yX4_stop, cX4_stop, 11, (some .int), [])
theorem ok_X4_stop : vv_okV MX4_stop 4 := ⟨rfl, by decide, q2131, q2132, q115, q2133, ⟨by decide, by decide, by decide +kernel⟩⟩
abbrev MX4_see : vv_M := (yX4_see, cX4_see, 4, (some .int), [])
theorem ok_X4_see : vv_okV MX4_see 3 := ⟨rfl, by decide, q2135, q2136, q115, q2137, ⟨by decide, by decide, by decide +kernel⟩⟩
abbrev MX4_forget : vv_M := (yX4_forget, cX4_forget, 1, none, [])
theorem ok_X4_forget : vv_okV MX4_forget 0 := ⟨rfl, by decide, q2139, q2140, q115, q2141, ⟨by decide, by decide, by decide +kernel⟩⟩
abbrev MX4_opened : vv_M := (yX4_opened, cX4_opened, 5, (some .int), [])
theorem ok_X4_opened : vv_okV MX4_opened 1 := ⟨rfl, by decide, q2143, q2144, q115, q2145, ⟨by decide, by decide, by decide +kernel⟩⟩
abbrev MX4_isSeen : vv_M := (yX4_isSeen, cX4_isSeen, 5, (some .boolean), [])
theorem ok_X4_isSeen : vv_okV MX4_isSeen 2 := ⟨rfl, by decide, q2148, qs100, q115, q2149, ⟨by decide, by decide, by decide +kernel⟩⟩
abbrev MX4_isGuess : vv_M := (yX4_isGuess, cX4_isGuess, 2, (some .boolean), [])
theorem ok_X4_isGuess : vv_okV MX4_isGuess 1 := ⟨rfl, by decide, q2152, qs101, q115, q2153, ⟨by decide, by decide, by decide +kernel⟩⟩
abbrev MX4_next : vv_M := (yX4_next, cX4_next, 10, (some .int), [])
theorem ok_X4_next : vv_okV MX4_next 1 := ⟨rfl, by decide, q2155, q2156, q115, q2157, ⟨by decide, by decide, by decide +kernel⟩⟩
abbrev MX4_areLike : vv_M := (yX4_areLike, cX4_areLike, 5, (some .boolean), [])
theorem ok_X4_areLike : vv_okV MX4_areLike 3 := ⟨rfl, by decide, q2160, qs102, q115, q2161, ⟨by decide, by decide, by decide +kernel⟩⟩
abbrev MX4_pooled : vv_M := (yX4_pooled, cX4_pooled, 4, (some .int), [])
theorem ok_X4_pooled : vv_okV MX4_pooled 1 := ⟨rfl, by decide, q2163, q2164, q115, q2165, ⟨by decide, by decide, by decide +kernel⟩⟩
abbrev MX4_missed : vv_M := (yX4_missed, cX4_missed, 5, (some .int), [])
theorem ok_X4_missed : vv_okV MX4_missed 0 := ⟨rfl, by decide, q2167, q2168, q115, q2169, ⟨by decide, by decide, by decide +kernel⟩⟩
abbrev MX4_game : vv_M := (yX4_game, cX4_game, 9, (some .int), [])
theorem ok_X4_game : vv_okV MX4_game 3 := ⟨rfl, by decide, q2171, q2172, q115, q2173, ⟨by decide, by decide, by decide +kernel⟩⟩
abbrev MX4_gains : vv_M := (yX4_gains, cX4_gains, 7, (some .int), [])
theorem ok_X4_gains : vv_okV MX4_gains 4 := ⟨rfl, by decide, q2176, qs103, q115, q2177, ⟨by decide, by decide, by decide +kernel⟩⟩
abbrev MX4_years : vv_M := (yX4_years, cX4_years, 7, (some .int), [])
theorem ok_X4_years : vv_okV MX4_years 3 := ⟨rfl, by decide, q2179, q2180, q115, q2181, ⟨by decide, by decide, by decide +kernel⟩⟩
abbrev MX4_steals : vv_M := (yX4_steals, cX4_steals, 2, none, [])
theorem ok_X4_steals : vv_okV MX4_steals 0 := ⟨rfl, by decide, q2184, qs104, q115, q2185, ⟨by decide, by decide, by decide +kernel⟩⟩
abbrev MX4_draw : vv_M := (yX4_draw, cX4_draw, 2, (some .int), [])
theorem ok_X4_draw : vv_okV MX4_draw 1 := ⟨rfl, by decide, q2188, qs105, q115, q2189, ⟨by decide, by decide, by decide +kernel⟩⟩
abbrev MX4_thief : vv_M := (yX4_thief, cX4_thief, 7, (some .int), [])
theorem ok_X4_thief : vv_okV MX4_thief 2 := ⟨rfl, by decide, q2192, q2193, q115, q2194, ⟨by decide, by decide, by decide +kernel⟩⟩
abbrev MX4_grainsOf : vv_M := (yX4_grainsOf, cX4_grainsOf, 5, (some .int), [])
theorem ok_X4_grainsOf : vv_okV MX4_grainsOf 2 := ⟨rfl, by decide, q2197, qs106, q115, q2198, ⟨by decide, by decide, by decide +kernel⟩⟩
abbrev MX4_level : vv_M := (yX4_level, cX4_level, 6, (some .int), [])
theorem ok_X4_level : vv_okV MX4_level 1 := ⟨rfl, by decide, q2200, q2201, q115, q2202, ⟨by decide, by decide, by decide +kernel⟩⟩
abbrev MX4_offBy : vv_M := (yX4_offBy, cX4_offBy, 4, (some .int), [])
theorem ok_X4_offBy : vv_okV MX4_offBy 2 := ⟨rfl, by decide, q2205, qs107, q115, q2206, ⟨by decide, by decide, by decide +kernel⟩⟩
abbrev MX4_lend : vv_M := (yX4_lend, cX4_lend, 4, (some .int), [])
theorem ok_X4_lend : vv_okV MX4_lend 1 := ⟨rfl, by decide, q2208, q2209, q115, q2210, ⟨by decide, by decide, by decide +kernel⟩⟩
abbrev MX4_image : vv_M := (yX4_image, cX4_image, 2, none, [])
theorem ok_X4_image : vv_okV MX4_image 0 := ⟨rfl, by decide, q2212, q2213, q115, q2214, ⟨by decide, by decide, by decide +kernel⟩⟩
abbrev MX4_restore : vv_M := (yX4_restore, cX4_restore, 2, (some .boolean), [])
theorem ok_X4_restore : vv_okV MX4_restore 0 := ⟨rfl, by decide, q2216, q2217, q115, q2218, ⟨by decide, by decide, by decide +kernel⟩⟩
