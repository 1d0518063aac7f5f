/-! the plain law: a Coast's odds and days -/
set_option maxRecDepth 100000
def lp {α : Type} (f : Nat → α → α) : Nat → Nat → α → α
  | 0, _, x => x
  | c + 1, i, x => lp f c (i + 1) (f i x)
def lyF (R : Nat → Int32) (w : Int32) (k : Nat) (v : Int32) : Int32 := if liesR R k ∧ (w = -1 ∨ R (55 + k) = w) then v ||| ((nI 1) <<< (nI k &&& 31)) else v
def lyR (P : pvT) (R : Nat → Int32) (w : Int32) : Int32 := lp (lyF R w) P.1.2.2 0 (nI 0)
def vaR (P : pvT) (R : Nat → Int32) (t : Nat) (n : Int32) (k : Nat) : Int32 :=
  if k = 0 then R (1 + t) else if k = 1 then R (9 + t) else if k = 2 then P.2.1 1 t else if k = 3 then P.2.1 0 t else if k = 4 then R 0 else n
def bcI (x : Int32) : Int32 := (KJ14_bitCount x).getD 0
def oddR (P : pvT) (R : Nat → Int32) (t : Nat) : Int32 := mxI (nI 0) (mnI (nI 12) (match P.2.2 with
  | none => nI 6 + R (1 + t) / nI 10 - R (9 + t) / nI 10
  | some ev => ev (vaR P R t (bcI (lyR P R (nI t))))))
/-- six numbers say all -/
def six (P : pvT) : Prop := match P.2.2 with
  | none => True
  | some ev => ∀ u u' : Nat → Int32, (∀ k, k < 6 → u k = u' k) → ev u = ev u'
section CE
variable {σ : vv_S} {x0 a pa va : Nat} {h0 : Nat → Option vv_E} {P : pvT} {R : Nat → Int32} {lo : Int32}
theorem ev_pa (H : isEnv σ x0 h0 pa va P) : gR σ x0 0 1 = some pa := H.2.2.2.1
theorem ev_va (H : isEnv σ x0 h0 pa va P) : gR σ x0 0 0 = some va := H.2.2.2.2.1
theorem ev_x (H : isEnv σ x0 h0 pa va P) : isO σ x0 0 = some () := H.2.2.1
theorem ev_vaco (H : isEnv σ x0 h0 pa va P) (h : isCo σ x0 a R lo) : ¬ coA a va := by
  obtain ⟨-, -, -, -, -, -, u, hu⟩ := H
  intro hq
  by_cases e : va = a
  · rw [e, h.1] at hu; cases hu
  · obtain ⟨f, h1, -⟩ := h.2 (va - (a + 1)) (by have := hq.1; have := hq.2; omega)
    rw [show a + 1 + (va - (a + 1)) = va by have := hq.1; omega, hu] at h1
    have h2 := Option.some.inj h1
    have h3 := congrArg Prod.snd h2
    have h4 : (6 : Nat) = ro_n (va - (a + 1)) := by injection h3 with h5; injection h5 with h6 h7; injection h7
    unfold ro_n at h4
    split at h4 <;> omega
theorem ev_xco (H : isEnv σ x0 h0 pa va P) (h : isCo σ x0 a R lo) : ¬ coA a x0 := by
  obtain ⟨-, -, ho, -⟩ := H
  intro hq
  unfold isO at ho
  by_cases e : x0 = a
  · rw [e, h.1] at ho
    have ho : (if (2 : Nat) = 0 then some () else none) = some () := ho
    rw [if_neg (by decide)] at ho
    cases ho
  · obtain ⟨f, h1, -⟩ := h.2 (x0 - (a + 1)) (by have := hq.1; have := hq.2; omega)
    rw [show a + 1 + (x0 - (a + 1)) = x0 by have := hq.1; omega] at h1
    rw [h1] at ho
    cases ho
theorem K_lying_loop (H : isEnv σ x0 h0 pa va P) (h : isCo σ x0 a R lo) (w : Int32) : ∀ (c i : Nat) (v : Int32) (n : Nat), i + c = P.1.2.2 → c < n → KX3_lying_4 n a w v (nI i) σ = some (lp (lyF R w) c i v) := by
  have h10 := ev_10 H
  intro c
  induction c with
  | zero =>
    intro i v n hi hn
    obtain ⟨n, rfl⟩ : ∃ m, n = m + 1 := ⟨n - 1, by omega⟩
    show BKX3_lying_4 (KX3_lying_4 n) a w v (nI i) σ = _
    unfold BKX3_lying_4
    simp only [co_11 h, ev_pa H, ev_cr H, Option.bind_some]
    rw [if_pos (nI_le (by omega) (by omega))]
    rfl
  | succ c ih =>
    intro i v n hi hn
    obtain ⟨n, rfl⟩ : ∃ m, n = m + 1 := ⟨n - 1, by omega⟩
    show BKX3_lying_4 (KX3_lying_4 n) a w v (nI i) σ = _
    have e6 : aI σ .int (a + 1 + 6) (nI i) = some (R (55 + i)) := co_aI h (j := 6) (by decide) (show i < 10 by omega)
    unfold BKX3_lying_4 KX3_lying_41 KX3_lying_47
    simp only [co_11 h, ev_pa H, ev_cr H, Option.bind_some, co_o h, K_lies h (show i < 10 by omega), co_R h (j := 6) (by decide), e6]
    rw [if_neg (nI_ge (show i < P.1.2.2 by omega) (by omega))]
    show _ = some (lp (lyF R w) c (i + 1) (lyF R w i v))
    rw [nI_add]
    by_cases hl : liesR R i
    · rw [if_pos hl, if_neg (by decide)]
      by_cases hw : w = -1
      · rw [if_pos hw, ih (i + 1) _ n (by omega) (by omega)]
        unfold lyF
        rw [if_pos ⟨hl, Or.inl hw⟩]
      · rw [if_neg hw]
        by_cases ht : R (55 + i) = w
        · rw [if_pos ht, ih (i + 1) _ n (by omega) (by omega)]
          unfold lyF
          rw [if_pos ⟨hl, Or.inr ht⟩]
        · rw [if_neg ht, ih (i + 1) _ n (by omega) (by omega)]
          unfold lyF
          rw [if_neg (fun q => q.2.elim hw ht)]
    · rw [if_neg hl, if_pos nI_0, ih (i + 1) _ n (by omega) (by omega)]
      unfold lyF
      rw [if_neg (fun q => hl q.1)]
theorem K_lying (H : isEnv σ x0 h0 pa va P) (h : isCo σ x0 a R lo) (w : Int32) : KX3_lying a w σ = some (lyR P R w) := K_lying_loop H h w _ 0 _ NN (by omega) (by have := ev_10 H; unfold NN; omega)
theorem ev_sv (H : isEnv σ x0 h0 pa va P) {u : Nat → Int32} (hu : σ.1 va = some (true, .inl (.int, 6, .inl u))) {j : Nat} (hj : j < 6) {v : Int32} : ∃ σ', sI σ va (nI j) v = some σ' ∧ σ'.1 va = some (true, .inl (.int, 6, .inl (upd u j v))) ∧ isEnv σ' x0 h0 pa va P ∧ fr (fun q => q = va) σ σ' := by
  have hf : fr (fun q => q = va) σ (vv_up σ.1 va (true, .inl (.int, 6, .inl (upd u j v))), σ.2) := ⟨rfl, fun q hq => up_n hq⟩
  refine ⟨(vv_up σ.1 va (true, .inl (.int, 6, .inl (upd u j v))), σ.2), ?_, vv_up_at, ?_, hf⟩
  · unfold sI
    rw [hu]
    show (if FieldType.int = FieldType.int ∧ ¬ ((nI j) < 0 ∨ 6 ≤ (nI j).toNatClampNeg) then _ else none) = _
    rw [if_pos ⟨rfl, nI_in hj (by omega)⟩, nI_clamp (by omega)]
  · obtain ⟨h1, h2, h3, h4, h5, h6, h7⟩ := H
    have e : (vv_up σ.1 va (true, .inl (.int, 6, .inl (upd u j v)))) x0 = σ.1 x0 := up_n (fun e => by
      unfold isO at h3
      rw [e, hu] at h3
      cases h3)
    exact ⟨h1.fr hf (fun q hq => by rw [hq]; exact h6), h2, (isO_eq (σ' := (_, σ.2)) e).trans h3, (gR_eq (σ' := (_, σ.2)) e).trans h4, (gR_eq (σ' := (_, σ.2)) e).trans h5, h6, _, vv_up_at⟩
theorem co_va (H : isEnv σ x0 h0 pa va P) (h : isCo σ x0 a R lo) {σ' : vv_S} (hf : fr (fun q => q = va) σ σ') : isCo σ' x0 a R lo := h.ke fun q h1 h2 => hf.2 q fun e => ev_vaco H h (by rw [← e]; exact ⟨h1, h2⟩)
theorem ev_od0 (H : isEnv σ x0 h0 pa va P) (hn : P.2.2 = none) : gV σ pa 1 4 = some .null := by
  obtain ⟨hs, ⟨-, fl, lm, ls, lw, gm, gs, gw, od, h1, -, -, -, -, -, -, h9⟩, -⟩ := H
  rw [hn] at h9
  unfold gV
  rw [hs _ _ h1, h9]
  rfl
theorem ev_od1 (H : isEnv σ x0 h0 pa va P) {ev : (Nat → Int32) → Int32} (hn : P.2.2 = some ev) : ∃ fa, gV σ pa 1 4 = some (.ref fa) ∧ isFm h0 fa ev := by
  obtain ⟨hs, ⟨-, fl, lm, ls, lw, gm, gs, gw, od, h1, -, -, -, -, -, -, h9⟩, -⟩ := H
  rw [hn] at h9
  obtain ⟨fa, rfl, h9⟩ := h9
  refine ⟨fa, ?_, h9⟩
  unfold gV
  rw [hs _ _ h1]
  rfl
theorem dv_n {x : Int32} {n : Nat} (h0 : 0 < n) (h : n < 2 ^ 31) : dvI x (nI n) = some (x / nI n) := by
  unfold dvI
  rw [if_neg (nI_ne0 h0 h)]
theorem K_odds (H : isEnv σ x0 h0 pa va P) (h : isCo σ x0 a R lo) (h6 : six P) {t : Nat} (ht : t < P.1.1) : ∃ σ', KX3_odds (KX_fo 80) a (nI t) σ = some (oddR P R t, σ') ∧ isEnv σ' x0 h0 pa va P ∧ isCo σ' x0 a R lo ∧ fr (fun q => q = va) σ σ' := by
  have h8 := ev_8 H
  have e0 : aI σ .int (a + 1 + 0) (nI t) = some (R (1 + t)) := co_aI h (j := 0) (by decide) (show t < 8 by omega)
  have e1 : aI σ .int (a + 1 + 1) (nI t) = some (R (9 + t)) := co_aI h (j := 1) (by decide) (show t < 8 by omega)
  unfold KX3_odds
  simp only [co_R h (j := 0) (by decide), co_R h (j := 1) (by decide), e0, e1, dv_n (show 0 < 10 by omega) (show 10 < 2 ^ 31 by omega), co_11 h, ev_pa H, Option.bind_some]
  cases ho : P.2.2 with
  | none =>
    refine ⟨σ, ?_, H, h, fr.rf⟩
    rw [ev_od0 H ho]
    show KX3_odds_181 (KX_fo 80) _ σ = _
    unfold KX3_odds_181 oddR
    rw [ho]
  | some ev =>
    obtain ⟨fa, g1, g2⟩ := ev_od1 H ho
    rw [g1]
    show ∃ σ', (((gR σ x0 0 0).bind _) = _ ∧ _)
    obtain ⟨u, hu⟩ := H.2.2.2.2.2.2
    obtain ⟨σ1, s1, u1, H1, f1⟩ := ev_sv H hu (j := 0) (v := R (1 + t)) (by decide)
    have h1 := co_va H h f1
    obtain ⟨σ2, s2, u2, H2, f2⟩ := ev_sv H1 u1 (j := 1) (v := R (9 + t)) (by decide)
    have h2 := co_va H1 h1 f2
    obtain ⟨ls, q1, a1, a2, a3, a4, a5⟩ := ev_st H2 ht
    obtain ⟨σ3, s3, u3, H3, f3⟩ := ev_sv H2 u2 (j := 2) (v := P.2.1 1 t) (by decide)
    have h3 := co_va H2 h2 f3
    obtain ⟨lm, q2, b1, b2, b3, b4, b5⟩ := ev_mk H3 ht
    obtain ⟨σ4, s4, u4, H4, f4⟩ := ev_sv H3 u3 (j := 3) (v := P.2.1 0 t) (by decide)
    have h4 := co_va H3 h3 f4
    obtain ⟨σ5, s5, u5, H5, f5⟩ := ev_sv H4 u4 (j := 4) (v := R 0) (by decide)
    have h5 := co_va H4 h4 f5
    obtain ⟨σ6, s6, u6, H6, f6⟩ := ev_sv H5 u5 (j := 5) (v := bcI (lyR P R (nI t))) (by decide)
    have h7 := co_va H5 h5 f6
    have e2 : aI σ1 .int (a + 1 + 1) (nI t) = some (R (9 + t)) := co_aI h1 (j := 1) (by decide) (show t < 8 by omega)
    have hb : KJ14_bitCount (lyR P R (nI t)) = some (bcI (lyR P R (nI t))) := rfl
    have hfo := g2 σ6 H6.1 va true _ u6
    have hev : ev (upd (upd (upd (upd (upd (upd u 0 (R (1 + t))) 1 (R (9 + t))) 2 (P.2.1 1 t)) 3 (P.2.1 0 t)) 4 (R 0)) 5 (bcI (lyR P R (nI t)))) = ev (vaR P R t (bcI (lyR P R (nI t)))) := by
      have h6' := h6
      unfold six at h6'
      rw [ho] at h6'
      refine h6' _ _ fun k hk => ?_
      rcases (show k = 0 ∨ k = 1 ∨ k = 2 ∨ k = 3 ∨ k = 4 ∨ k = 5 by omega) with rfl | rfl | rfl | rfl | rfl | rfl <;> rfl
    obtain ⟨fa6, g3, -⟩ := ev_od1 H6 ho
    refine ⟨σ6, ?_, H6, h7, ((((f1.tr f2).tr f3).tr f4).tr f5).tr f6⟩
    have g4 : gV σ6 pa 1 4 = some (.ref fa) := by
      have e9 := ev_od1 H6 ho
      obtain ⟨fl, gg⟩ : ∃ fl : Bool, ∃ lv, h0 pa = some (fl, .inr (1, lv)) := by
        obtain ⟨-, ⟨-, fl, lm, ls, lw, gm, gs, gw, od, h1, -⟩, -⟩ := H
        exact ⟨fl, _, h1⟩
      obtain ⟨lv, gg⟩ := gg
      have ea : σ.1 pa = some (fl, .inr (1, lv)) := H.1 _ _ gg
      have eb : σ6.1 pa = some (fl, .inr (1, lv)) := H6.1 _ _ gg
      rw [gV_eq (σ := σ) (σ' := σ6) (eb.trans ea.symm)]
      exact g1
    simp only [ev_va H, s1, co_11 h1, ev_va H1, co_R h1 (j := 1) (by decide), e2, s2, co_11 h2, ev_va H2, ev_pa H2, a1, a2, a3, a4, a5, s3, co_11 h3, ev_va H3, ev_pa H3, b1, b2, b3, b4, b5, s4, co_11 h4, ev_va H4, co_9 h4, s5, co_11 h5, ev_va H5, co_o h5, K_lying H5 h5, hb, s6, co_11 h7, ev_pa H6, ev_va H6, g4, Option.bind_some]
    show ((KX_fo 80 fa va σ6).bind _) = _
    rw [hfo, hev]
    show KX3_odds_181 (KX_fo 80) _ σ6 = _
    unfold KX3_odds_181 oddR
    rw [ho]
end CE
