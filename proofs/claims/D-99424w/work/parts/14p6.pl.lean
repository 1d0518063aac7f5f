/-! the plain law: a town's day, a Coast's day -/
set_option maxRecDepth 100000
def gosR (k : Nat) (R : Nat → Int32) : Nat → Int32 := if R (65 + k) ≤ 0 then R else shipR R k
/-- a town's day: the row, those that lost -/
def townR (P : pvT) (t : Nat) (s : (Nat → Int32) × Int32) : (Nat → Int32) × Int32 :=
  let R1 := giveR s.1 t (P.2.1 0 t)
  if oddR P R1 t < nI 7 then (faresR P R1 t false, s.2 ||| ((nI 1) <<< (nI t &&& 31))) else (faresR P R1 t true, s.2)
def dayR (P : pvT) (R : Nat → Int32) : (Nat → Int32) × Int32 :=
  let s := lp (townR P) P.1.1 0 (lp gosR P.1.2.2 0 R, nI 0)
  (upd s.1 0 (s.1 0 + nI 1), s.2)
abbrev coV (a va : Nat) : Nat → Prop := fun q => coA a q ∨ q = va
section CF
variable {σ : vv_S} {x0 a pa va : Nat} {h0 : Nat → Option vv_E} {P : pvT} {R : Nat → Int32} {lo : Int32}
theorem ev_co (H : isEnv σ x0 h0 pa va P) (h : isCo σ x0 a R lo) (hd : ∀ q, coA a q → h0 q = none) {σ' : vv_S} (hf : fr (coA a) σ σ') : isEnv σ' x0 h0 pa va P := H.fr hf hd (ev_xco H h) (ev_vaco H h)
theorem K_fares (H : isEnv σ x0 h0 pa va P) (h : isCo σ x0 a R lo) {t : Nat} (ht : t < P.1.1) (w : Bool) : ∃ σ', KX3_fares a (nI t) (if w = true then nI 1 else nI 0) σ = some σ' ∧ isCo σ' x0 a (faresR P R t w) lo ∧ fr (coA a) σ σ' := by
  have h8 := ev_8 H
  obtain ⟨ls, q1, a1, a2, a3, a4, a5⟩ := ev_st H ht
  have e2 : aI σ .int (a + 1 + 2) (nI t) = some (R (17 + t)) := co_aI h (j := 2) (by decide) (show t < 8 by omega)
  unfold KX3_fares
  simp only [co_11 h, ev_pa H, a1, a2, a3, a4, a5, co_R h (j := 2) (by decide), e2, Option.bind_some]
  unfold faresR
  cases w with
  | true =>
    rw [if_pos rfl, if_neg (by decide), if_pos rfl]
    unfold KX3_fares_40
    obtain ⟨σ1, s1, c1, f1⟩ := co_sI h (j := 2) (i := t) (v := R (17 + t) + P.2.1 1 t) (by decide) (show t < 8 by omega)
    have e0 : aI σ1 .int (a + 1 + 0) (nI t) = some (upd R (17 + t) (R (17 + t) + P.2.1 1 t) (1 + t)) := co_aI c1 (j := 0) (by decide) (show t < 8 by omega)
    obtain ⟨σ2, s2, c2, f2⟩ := co_sI c1 (j := 0) (i := t) (v := mxI (nI 0) (upd R (17 + t) (R (17 + t) + P.2.1 1 t) (1 + t) - P.2.1 1 t)) (by decide) (show t < 8 by omega)
    obtain ⟨σ3, s3, c3, f3⟩ := K_fares75 c2 (t := t) (by omega)
    simp only [s1, Option.bind_some]
    rw [if_neg (by decide)]
    simp only [co_R c1 (j := 0) (by decide), e0, s2, s3, Option.bind_some]
    exact ⟨σ3, rfl, c3, (f1.tr f2).tr f3⟩
  | false =>
    rw [show (if (false : Bool) = true then nI 1 else nI 0) = nI 0 from rfl, if_pos nI_0, if_neg (by decide)]
    unfold KX3_fares_40
    obtain ⟨σ1, s1, c1, f1⟩ := co_sI h (j := 2) (i := t) (v := R (17 + t) + -(P.2.1 1 t)) (by decide) (show t < 8 by omega)
    obtain ⟨σ2, s2, c2, f2⟩ := K_give c1 (t := t) (by omega) (v := P.2.1 1 t / nI 2)
    obtain ⟨σ3, s3, c3, f3⟩ := K_fares75 c2 (t := t) (by omega)
    simp only [s1, Option.bind_some]
    rw [if_pos nI_0]
    simp only [dv_n (show 0 < 2 by omega) (show 2 < 2 ^ 31 by omega), co_o c1, s2, s3, Option.bind_some]
    exact ⟨σ3, rfl, c3, (f1.tr f2).tr f3⟩
theorem K_town_loop (h6 : six P) (hd : ∀ q, coA a q → h0 q = none) : ∀ (c i : Nat) (n : Nat) (σ : vv_S) (R : Nat → Int32) (lo : Int32), isEnv σ x0 h0 pa va P → isCo σ x0 a R lo → i + c = P.1.1 → c < n → ∃ σ', KX3_pass_42 (KX_fo 80) n a (nI 0) (nI i) σ = some (a, σ') ∧ isEnv σ' x0 h0 pa va P ∧ isCo σ' x0 a (upd (lp (townR P) c i (R, lo)).1 0 ((lp (townR P) c i (R, lo)).1 0 + nI 1)) (lp (townR P) c i (R, lo)).2 ∧ fr (coV a va) σ σ' := by
  intro c
  induction c with
  | zero =>
    intro i n σ R lo H h hi hn
    obtain ⟨n, rfl⟩ : ∃ m, n = m + 1 := ⟨n - 1, by omega⟩
    show ∃ σ', BKX3_pass_42 (KX_fo 80) (KX3_pass_42 (KX_fo 80) n) a (nI 0) (nI i) σ = _ ∧ _
    unfold BKX3_pass_42
    have h8 := ev_8 H
    obtain ⟨σ1, s1, c1, f1⟩ := co_p9 h (v := R 0 + nI 1)
    simp only [co_11 h, ev_pa H, ev_o H, ev_tw H, Option.bind_some]
    rw [if_pos (nI_le (by omega) (by omega)), co_9 h]
    simp only [s1, Option.bind_some]
    exact ⟨σ1, rfl, ev_co H h hd f1, c1, f1.mo fun q hq => Or.inl hq⟩
  | succ c ih =>
    intro i n σ R lo H h hi hn
    obtain ⟨n, rfl⟩ : ∃ m, n = m + 1 := ⟨n - 1, by omega⟩
    show ∃ σ', BKX3_pass_42 (KX_fo 80) (KX3_pass_42 (KX_fo 80) n) a (nI 0) (nI i) σ = _ ∧ _
    unfold BKX3_pass_42 KX3_pass_127 KX3_pass_144
    have h8 := ev_8 H
    obtain ⟨lm, q1, a1, a2, a3, a4, a5⟩ := ev_mk H (show i < P.1.1 by omega)
    obtain ⟨σ1, s1, c1, f1⟩ := K_give h (t := i) (by omega) (v := P.2.1 0 i)
    have H1 := ev_co H h hd f1
    obtain ⟨σ2, s2, H2, c2, f2⟩ := K_odds H1 c1 h6 (t := i) (by omega)
    simp only [co_11 h, ev_pa H, ev_o H, ev_tw H, Option.bind_some, a1, a2, a3, a4, a5, co_o h, s1]
    rw [if_neg (nI_ge (show i < P.1.1 by omega) (by omega)), if_pos nI_0]
    simp only [co_o c1, s2, Option.bind_some]
    show ∃ σ', _ ∧ _ ∧ isCo σ' x0 a (upd (lp (townR P) c (i + 1) (townR P i (R, lo))).1 0 ((lp (townR P) c (i + 1) (townR P i (R, lo))).1 0 + nI 1)) (lp (townR P) c (i + 1) (townR P i (R, lo))).2 ∧ _
    unfold townR
    dsimp only
    rw [nI_add]
    have fA : fr (coV a va) σ σ2 := (f1.mo fun q hq => Or.inl hq).tr (f2.mo fun q hq => Or.inr hq)
    by_cases hw : oddR P (giveR R i (P.2.1 0 i)) i < nI 7
    · rw [if_pos hw, if_pos hw, if_pos nI_0, co_10 c2]
      obtain ⟨σ3, s3, c3, f3⟩ := co_p10 c2 (v := lo ||| ((nI 1) <<< (nI i &&& 31)))
      have H3 := ev_co H2 c2 hd f3
      obtain ⟨σ4, s4, c4, f4⟩ := K_fares H3 c3 (t := i) (by omega) false
      have s4 : KX3_fares a (nI i) (nI 0) σ3 = some σ4 := s4
      obtain ⟨σ5, s5, H5, c5, f5⟩ := ih (i + 1) n σ4 _ _ (ev_co H3 c3 hd f4) c4 (by omega) (by omega)
      simp only [s3, co_o c3, s4, s5, Option.bind_some]
      exact ⟨σ5, rfl, H5, c5, ((fA.tr (f3.mo fun q hq => Or.inl hq)).tr (f4.mo fun q hq => Or.inl hq)).tr f5⟩
    · rw [if_neg hw, if_neg hw, if_neg (by decide)]
      obtain ⟨σ4, s4, c4, f4⟩ := K_fares H2 c2 (t := i) (by omega) true
      have s4 : KX3_fares a (nI i) (nI 1) σ2 = some σ4 := s4
      obtain ⟨σ5, s5, H5, c5, f5⟩ := ih (i + 1) n σ4 _ _ (ev_co H2 c2 hd f4) c4 (by omega) (by omega)
      simp only [co_o c2, s4, s5, Option.bind_some]
      exact ⟨σ5, rfl, H5, c5, (fA.tr (f4.mo fun q hq => Or.inl hq)).tr f5⟩
theorem K_crate_loop (w : Int32) (hd : ∀ q, coA a q → h0 q = none) : ∀ (c i : Nat) (n : Nat) (σ : vv_S) (R : Nat → Int32), isEnv σ x0 h0 pa va P → isCo σ x0 a R lo → i + c = P.1.2.2 → c < n → ∃ σ', KX3_pass_2 (KX_fo 80) n a w (nI i) σ = KX3_pass_42 (KX_fo 80) NN a w (nI 0) σ' ∧ isEnv σ' x0 h0 pa va P ∧ isCo σ' x0 a (lp gosR c i R) (nI 0) ∧ fr (coA a) σ σ' := by
  intro c
  induction c with
  | zero =>
    intro i n σ R H h hi hn
    obtain ⟨n, rfl⟩ : ∃ m, n = m + 1 := ⟨n - 1, by omega⟩
    show ∃ σ', BKX3_pass_2 (KX_fo 80) (KX3_pass_2 (KX_fo 80) n) a w (nI i) σ = _ ∧ _
    unfold BKX3_pass_2
    have h8 := ev_10 H
    obtain ⟨σ1, s1, c1, f1⟩ := co_p10 h (v := nI 0)
    simp only [co_11 h, ev_pa H, ev_cr H, Option.bind_some]
    rw [if_pos (nI_le (by omega) (by omega)), s1]
    exact ⟨σ1, rfl, ev_co H h hd f1, c1, f1⟩
  | succ c ih =>
    intro i n σ R H h hi hn
    obtain ⟨n, rfl⟩ : ∃ m, n = m + 1 := ⟨n - 1, by omega⟩
    show ∃ σ', BKX3_pass_2 (KX_fo 80) (KX3_pass_2 (KX_fo 80) n) a w (nI i) σ = _ ∧ _
    unfold BKX3_pass_2 KX3_pass_29
    have h8 := ev_10 H
    simp only [co_11 h, ev_pa H, ev_cr H, Option.bind_some, co_o h, K_goes h (show i < 10 by omega)]
    rw [if_neg (nI_ge (show i < P.1.2.2 by omega) (by omega)), nI_add]
    show ∃ σ', _ ∧ _ ∧ isCo σ' x0 a (lp gosR c (i + 1) (gosR i R)) (nI 0) ∧ _
    unfold gosR
    by_cases hg : R (65 + i) ≤ 0
    · rw [if_pos hg, if_pos hg, if_pos nI_0]
      exact ih (i + 1) n σ R H h (by omega) (by omega)
    · rw [if_neg hg, if_neg hg, if_neg (by decide)]
      obtain ⟨σ1, s1, c1, f1⟩ := K_ship h (k := i) (by omega)
      obtain ⟨σ2, s2, H2, c2, f2⟩ := ih (i + 1) n σ1 _ (ev_co H h hd f1) c1 (by omega) (by omega)
      rw [s1]
      exact ⟨σ2, s2, H2, c2, f1.tr f2⟩
theorem K_pass (H : isEnv σ x0 h0 pa va P) (h : isCo σ x0 a R lo) (h6 : six P) (hd : ∀ q, coA a q → h0 q = none) : ∃ σ', KX3_pass (KX_fo 80) a (nI 0) σ = some (a, σ') ∧ isEnv σ' x0 h0 pa va P ∧ isCo σ' x0 a (dayR P R).1 (dayR P R).2 ∧ fr (coV a va) σ σ' := by
  have h8 := ev_8 H
  have h10 := ev_10 H
  obtain ⟨σ1, s1, H1, c1, f1⟩ := K_crate_loop (nI 0) hd P.1.2.2 0 NN σ R H h (by omega) (by unfold NN; omega)
  obtain ⟨σ2, s2, H2, c2, f2⟩ := K_town_loop h6 hd P.1.1 0 NN σ1 _ _ H1 c1 (by omega) (by unfold NN; omega)
  exact ⟨σ2, s1.trans s2, H2, c2, (f1.mo fun q hq => Or.inl hq).tr f2⟩
end CF
