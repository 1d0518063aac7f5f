/-! the plain law: what is asked of days to come -/
set_option maxRecDepth 100000
/-- component and twin, alike, before a call that only looks -/
def isQ (x0 : Nat) (h0 : Nat → Option vv_E) (pa va ca : Nat) (P : pvT) (R : Nat → Int32) (lo : Int32) (σ : vv_S) (T : tw_T) : Prop := isEnv σ x0 h0 pa va P ∧ isCo σ x0 ca R lo ∧ gR σ x0 0 2 = some ca ∧ (∀ q, σ.2.1 ≤ q → h0 q = none) ∧ (va < σ.2.1 ∧ x0 < σ.2.1 ∧ ca + 10 ≤ σ.2.1) ∧ (six P ∧ invP P) ∧ isTp T P ∧ isRw T 0 R ∧ invR P R
def okV (σ : vv_S) (va : Nat) : Prop := ∃ u, σ.1 va = some (true, .inl (.int, 6, .inl u))
/-- both answer alike; only the row of values has changed, so many cells and slots are new -/
def ans (va n m : Nat) (cs : List (String × Int32)) (σ : vv_S) (T : tw_T) (k : Option (hX (Int32 × vv_S))) (j : Option (Int32 × tw_T)) : Prop :=
  (∃ v σ' T', k = some (.inl (v, σ')) ∧ j = some (v, T') ∧ T'.1 0 = 0 ∧ fa (fun q => q = va) n m σ σ' ∧ okV σ' va ∧ jq T T') ∨
  ∃ C c q σ' w T', (C, c) ∈ cs ∧ k = some (.inr ((C, q), σ')) ∧ j = some (w, T') ∧ T'.1 0 = c ∧ fa (fun q => q = va) n m σ σ' ∧ okV σ' va ∧ jq T T'
theorem ans.ok {va n m : Nat} {cs : List (String × Int32)} {σ σ' : vv_S} {T T' : tw_T} {v : Int32} (h1 : T'.1 0 = 0) (h2 : fa (fun q => q = va) n m σ σ') (h3 : okV σ' va) (h4 : jq T T') : ans va n m cs σ T (some (.inl (v, σ'))) (some (v, T')) := Or.inl ⟨v, σ', T', rfl, rfl, h1, h2, h3, h4⟩
theorem fa_tS {S : Nat → Prop} {σ : vv_S} : fa S 1 6 σ (tS σ) := ⟨⟨Nat.le_succ _, Nat.le_refl _, Nat.le_add_right _ _, Nat.le_refl _⟩, fun _ _ _ => rfl⟩
theorem ans.th {va n m : Nat} {cs : List (String × Int32)} {σ : vv_S} {T T' : tw_T} {w c : Int32} {C : String} (hc : (C, c) ∈ cs) (h1 : T'.1 0 = c) (hn : 1 ≤ n) (hm : 6 ≤ m) (h3 : okV σ va) (h4 : jq T T') : ans va n m cs σ T (some (.inr ((C, σ.2.1), tS σ))) (some (w, T')) := Or.inr ⟨C, c, σ.2.1, tS σ, w, T', hc, rfl, rfl, h1, fa_tS.mo (fun _ h => h) hn hm, h3, h4⟩
theorem jq.t0 {T : tw_T} {c : Int32} : jq T (tw_F T 0 c) := jq.F (by omega)
/-- a Coast to try on, the second row -/
def bS (x0 : Nat) (h0 : Nat → Option vv_E) (pa va : Nat) (P : pvT) (a : Nat) (R : Nat → Int32) (σ : vv_S) (T : tw_T) : Prop := ∃ lo, isEnv σ x0 h0 pa va P ∧ isCo σ x0 a R lo ∧ isRw T 85 R ∧ isTp T P ∧ invR P R
theorem isEnv.up {σ σ' : vv_S} {x0 pa va : Nat} {h0 : Nat → Option vv_E} {P : pvT} (H : isEnv σ x0 h0 pa va P) (hd : ∀ q, σ.2.1 ≤ q → h0 q = none) (hv : va < σ.2.1) (hx : x0 < σ.2.1) (k : ∀ q, q < σ.2.1 → σ'.1 q = σ.1 q) : isEnv σ' x0 h0 pa va P := by
  obtain ⟨h1, h2, h3, h4, h5, h6, h7⟩ := H
  have e := k x0 hx
  refine ⟨fun q e1 he => ?_, h2, (isO_eq e).trans h3, (gR_eq e).trans h4, (gR_eq e).trans h5, h6, by rw [k va hv]; exact h7⟩
  by_cases hq : σ.2.1 ≤ q
  · rw [hd q hq] at he; cases he
  · rw [k q (by omega)]; exact h1 q e1 he
theorem n01 : ¬ nI 0 = nI 1 := by decide
theorem i_nlt {x y : Int32} : ¬ x ≤ y ↔ y < x := by rw [ti_le, ti_lt]; omega
theorem i_nle {x y : Int32} : ¬ x < y ↔ y ≤ x := by rw [ti_le, ti_lt]; omega
section QQ
variable {σ : vv_S} {T : tw_T} {x0 pa va ca a : Nat} {h0 : Nat → Option vv_E} {P : pvT} {R : Nat → Int32} {lo : Int32}
theorem isEnv.ov (H : isEnv σ x0 h0 pa va P) : okV σ va := H.2.2.2.2.2.2
theorem isQ.co (Q : isQ x0 h0 pa va ca P R lo σ T) : isCo σ x0 ca R lo := Q.2.1
theorem isQ.cx (Q : isQ x0 h0 pa va ca P R lo σ T) : six P ∧ invP P := Q.2.2.2.2.2.1
theorem isQ.tp (Q : isQ x0 h0 pa va ca P R lo σ T) : isTp T P := Q.2.2.2.2.2.2.1
theorem isQ.rw (Q : isQ x0 h0 pa va ca P R lo σ T) : isRw T 0 R := Q.2.2.2.2.2.2.2.1
theorem isQ.inv (Q : isQ x0 h0 pa va ca P R lo σ T) : invR P R := Q.2.2.2.2.2.2.2.2
theorem isQ.gc (Q : isQ x0 h0 pa va ca P R lo σ T) : gR σ x0 0 2 = some ca := Q.2.2.1
theorem isQ.dm (Q : isQ x0 h0 pa va ca P R lo σ T) : ∀ q, σ.2.1 ≤ q → h0 q = none := Q.2.2.2.1
theorem isQ.lt (Q : isQ x0 h0 pa va ca P R lo σ T) : va < σ.2.1 ∧ x0 < σ.2.1 ∧ ca + 10 ≤ σ.2.1 := Q.2.2.2.2.1
theorem isQ.j {T' : tw_T} (Q : isQ x0 h0 pa va ca P R lo σ T) (f : jq T T') : isQ x0 h0 pa va ca P R lo σ T' := ⟨Q.1, Q.2.1, Q.2.2.1, Q.2.2.2.1, Q.2.2.2.2.1, Q.2.2.2.2.2.1, Q.tp.jq f, Q.rw.jq f, Q.inv⟩
theorem isQ.z (Q : isQ x0 h0 pa va ca P R lo σ T) : ∃ T0, tw_F T 0 (nI 0) = T0 ∧ isQ x0 h0 pa va ca P R lo σ T0 ∧ T0.1 0 = 0 ∧ jq T T0 := ⟨_, rfl, Q.j jq.t0, F_00, jq.t0⟩
/-- old cells keep, the row of values apart -/
theorem isQ.k {σ' : vv_S} (Q : isQ x0 h0 pa va ca P R lo σ T) (H : isEnv σ' x0 h0 pa va P) {n m : Nat} (f : fa (fun q => q = va) n m σ σ') : isQ x0 h0 pa va ca P R lo σ' T := by
  have hl := Q.lt
  have hx : x0 ≠ va := fun e => by
    have h1 := Q.1.ov
    obtain ⟨u, h1⟩ := h1
    have h2 := ev_x Q.1
    unfold isO at h2
    rw [e, h1] at h2
    cases h2
  have hc := ev_vaco Q.1 Q.co
  refine ⟨H, Q.co.ke fun q h1 h2 => f.2 q (by omega) (fun e => hc (by rw [← e]; exact ⟨h1, h2⟩)), (gR_eq (f.2 x0 (by omega) hx)).trans Q.gc, fun q hq => Q.dm q (by have := f.1; omega), by have := f.1; omega, Q.cx, Q.tp, Q.rw, Q.inv⟩
theorem isQ.start (Q : isQ x0 h0 pa va ca P R lo σ T) (hz : T.1 0 = 0) : ∃ σ1 T1, KX3_copy ca σ = some (σ.2.1, σ1) ∧ J_tries T = some T1 ∧ bS x0 h0 pa va P σ.2.1 R σ1 T1 ∧ (∀ q, coA σ.2.1 q → h0 q = none) ∧ fa (fun q => q = va) 10 96 σ σ1 ∧ σ1.2.1 = σ.2.1 + 10 ∧ (∀ q, q < σ.2.1 → σ1.1 q = σ.1 q) ∧ jq T T1 ∧ T1.1 0 = 0 := by
  obtain ⟨σ1, s1, c1, z1, k1⟩ := K_copy Q.co Q.lt.2.2
  obtain ⟨T1, u1, r1, e1, f1⟩ := J_tries_e Q.rw
  refine ⟨σ1, T1, s1, u1, ⟨0, Q.1.up Q.dm Q.lt.1 Q.lt.2.1 k1, c1, r1, Q.tp.jq (jq.jf f1), Q.inv⟩, fun q hq => Q.dm q hq.1, ⟨?_, fun q h1 _ => k1 q h1⟩, by rw [z1], k1, jq.jf f1, by rw [e1]; exact hz⟩
  rw [z1]
  exact ⟨Nat.le_add_right _ _, Nat.le_refl _, Nat.le_add_right _ _, Nat.le_refl _⟩
/-- behind the days -/
theorem fa.coV {σ σ1 σ' : vv_S} {va b n m : Nat} (f1 : fa (fun q => q = va) n m σ σ1) (hb : σ.2.1 ≤ b) (f : fr (coV b va) σ1 σ') : fa (fun q => q = va) n m σ σ' := (f1.tr (fa.off f) (fun q hq h => h.elim (fun h3 => by have h3 : b ≤ q ∧ q < b + 10 := h3; omega) id)).mo (fun _ h => h) (by omega) (by omega)
theorem dayB (cx : six P ∧ invP P) (hd : ∀ q, coA a q → h0 q = none) (B : bS x0 h0 pa va P a R σ T) : ∃ σ' T', KX3_pass (KX_fo 80) a (nI 0) σ = some (a, σ') ∧ J_dayGoes (nI 85) T = some T' ∧ bS x0 h0 pa va P a (dayR P R).1 σ' T' ∧ gI σ' a 2 10 = some (dayR P R).2 ∧ T'.1 47 = dayW P R ∧ fr (coV a va) σ σ' ∧ jfr 85 T T' := by
  obtain ⟨lo, H, c, r, p, i⟩ := B
  have h8 := ev_8 H
  have h10 := ev_10 H
  obtain ⟨σ1, s1, H1, c1, f1⟩ := K_pass H c cx.1 hd
  obtain ⟨T1, u1, r1, p1, w1, g1⟩ := J_day_e r (by omega) p i cx.2 cx.1 h8 h10
  exact ⟨σ1, T1, s1, u1, ⟨_, H1, c1, r1, p1, inv_day i cx.2 h8 h10⟩, co_10 c1, w1, f1, g1⟩
theorem daysB (cx : six P ∧ invP P) (hd : ∀ q, coA a q → h0 q = none) (B : bS x0 h0 pa va P a R σ T) {m : Nat} (hm : m ≤ 60) : ∃ σ' T', KX3_after (KX_fo 80) a (nI m) σ = some (a, σ') ∧ J_daysGo (nI m) T = some T' ∧ bS x0 h0 pa va P a (itR P m R) σ' T' ∧ fr (coV a va) σ σ' ∧ jfr 85 T T' := by
  obtain ⟨lo, H, c, r, p, i⟩ := B
  obtain ⟨σ1, lo1, s1, H1, c1, f1⟩ := K_after H c cx.1 hd hm
  obtain ⟨T1, u1, r1, p1, i1, g1⟩ := J_days_e r p i cx.2 cx.1 (ev_8 H) (ev_10 H) hm
  exact ⟨σ1, T1, s1, u1, ⟨_, H1, c1, r1, p1, i1⟩, f1, g1⟩
theorem us_tp {s t : Nat} (hP : isTp T P) (ht : t < P.1.1) (h8 : P.1.1 ≤ 8) (hs : s = 1 ∨ s = 9 ∨ s = 17) : us T (s + t) := us_t hP.1 ht h8 hs
theorem us_cp {s t : Nat} (hP : isTp T P) (ht : t < P.1.2.2) (h8 : P.1.2.2 ≤ 10) (hs : s = 25 ∨ s = 35 ∨ s = 45 ∨ s = 55 ∨ s = 65 ∨ s = 75) : us T (s + t) := us_c hP.2.2.1 ht h8 hs
theorem us_tq {s t : Nat} (Q : isQ x0 h0 pa va ca P R lo σ T) (ht : t < P.1.1) (hs : s = 1 ∨ s = 9 ∨ s = 17) : us T (s + t) := us_t Q.tp.1 ht (ev_8 Q.1) hs
theorem us_cq {s t : Nat} (Q : isQ x0 h0 pa va ca P R lo σ T) (ht : t < P.1.2.2) (hs : s = 25 ∨ s = 35 ∨ s = 45 ∨ s = 55 ∨ s = 65 ∨ s = 75) : us T (s + t) := us_c Q.tp.2.2.1 ht (ev_10 Q.1) hs
theorem rd85 {k j : Nat} (h : isRw T 85 R) (hk : k < 85) (hj : j = 85 + k) (hu : us T k) : rdI 170 (T.2.2 20) (nI j) = some (R k) := by rw [hj]; exact rw_rd h (by omega) hk hu
theorem rd0 {k : Nat} (h : isRw T 0 R) (hk : k < 85) (hu : us T k) : rdI 170 (T.2.2 20) (nI k) = some (R k) := by
  have h1 := rw_rd h (by omega) hk hu
  rw [Nat.zero_add] at h1
  exact h1
theorem jfr.z {b : Nat} {T T' : tw_T} (h : jfr b T T') : T'.1 0 = T.1 0 := h.2.1 0 (by omega)
theorem even_loop (cx : six P ∧ invP P) (hd : ∀ q, coA a q → h0 q = none) {t : Nat} (ht : t < P.1.1) : ∀ (c i n : Nat) (σ : vv_S) (T : tw_T) (R : Nat → Int32), bS x0 h0 pa va P a R σ T → i + c = 61 → c < n → ∃ v σ' T', KX1_even_15 (KX_fo 80) n (nI t) a (nI i) σ = some (.inl (v, σ')) ∧ J_even_21 n (nI t) (nI i) T = some (v, T') ∧ isEnv σ' x0 h0 pa va P ∧ fr (coV a va) σ σ' ∧ jfr 85 T T' := by
  intro c
  induction c with
  | zero =>
    intro i n σ T R B hi hn
    obtain ⟨n, rfl⟩ : ∃ m, n = m + 1 := ⟨n - 1, by omega⟩
    show ∃ v σ' T', BKX1_even_15 (KX_fo 80) (KX1_even_15 (KX_fo 80) n) (nI t) a (nI i) σ = _ ∧ B_even_21 (J_even_21 n) (nI t) (nI i) T = _ ∧ _
    unfold BKX1_even_15 B_even_21
    rw [if_pos (nI_lt (show 60 < i by omega) (by omega)), if_pos (nI_lt (show 60 < i by omega) (by omega))]
    obtain ⟨lo, H, -⟩ := B
    exact ⟨-1, σ, T, rfl, rfl, H, fr.rf, jfr.rf⟩
  | succ c ih =>
    intro i n σ T R B hi hn
    obtain ⟨n, rfl⟩ : ∃ m, n = m + 1 := ⟨n - 1, by omega⟩
    show ∃ v σ' T', BKX1_even_15 (KX_fo 80) (KX1_even_15 (KX_fo 80) n) (nI t) a (nI i) σ = _ ∧ B_even_21 (J_even_21 n) (nI t) (nI i) T = _ ∧ _
    unfold BKX1_even_15 B_even_21
    rw [if_neg (nI_nlt (show i ≤ 60 by omega) (by omega)), if_neg (nI_nlt (show i ≤ 60 by omega) (by omega))]
    obtain ⟨lo, H, c0, r0, p0, i0⟩ := id B
    have h8 := ev_8 H
    have k1 : aI σ .int (a + 1 + 0) (nI t) = some (R (1 + t)) := co_aI c0 (j := 0) (by decide) (show t < 8 by omega)
    have k2 : aI σ .int (a + 1 + 1) (nI t) = some (R (9 + t)) := co_aI c0 (j := 1) (by decide) (show t < 8 by omega)
    have j1 : rdI 170 (T.2.2 20) (nI 86 + nI t) = some (R (1 + t)) := by rw [nI_add]; exact rd85 r0 (by omega) (by omega) (us_tp p0 ht h8 (by omega))
    have j2 : rdI 170 (T.2.2 20) (nI 94 + nI t) = some (R (9 + t)) := by rw [nI_add]; exact rd85 r0 (by omega) (by omega) (us_tp p0 ht h8 (by omega))
    simp only [co_R c0 (j := 0) (by decide), co_R c0 (j := 1) (by decide), k1, k2, j1, j2, bdS, co_o c0]
    by_cases he : R (1 + t) = R (9 + t)
    · rw [if_pos he, if_pos he]
      exact ⟨nI i, σ, T, rfl, rfl, H, fr.rf, jfr.rf⟩
    · rw [if_neg he, if_neg he]
      obtain ⟨σ1, T1, s1, u1, B1, -, -, f1, g1⟩ := dayB cx hd B
      obtain ⟨v, σ2, T2, s2, u2, H2, f2, g2⟩ := ih (i + 1) n σ1 T1 _ B1 (by omega) (by omega)
      simp only [s1, u1, nI_add, bdS]
      exact ⟨v, σ2, T2, s2, u2, H2, f1.tr f2, g1.tr g2⟩
theorem o_even (Q : isQ x0 h0 pa va ca P R lo σ T) (x1 : Int32) : ans va 20 200 [(nse, nI 1)] σ T (KX1_even (KX_fo 80) x0 x1 σ) (J_even x1 T) := by
  obtain ⟨T0, e0, Q0, hz, f0⟩ := Q.z
  unfold KX1_even J_even
  simp only [e0, bdS, ev_x Q0.1]
  rcases g_town Q0.1 Q0.tp hz x1 with ⟨t, ht, rfl, k1, j1⟩ | ⟨k1, j1⟩
  · obtain ⟨σ1, T1, s1, u1, B1, hd, F1, z1, y1, g1, hz1⟩ := Q0.start hz
    obtain ⟨v, σ2, T2, s2, u2, H2, f2, g2⟩ := even_loop Q0.cx hd ht 61 0 NN σ1 T1 _ B1 (by omega) (by unfold NN; omega)
    simp only [k1, j1, xbL, bdS, Q0.gc, co_o Q0.co, s1, u1, s2, u2, if_neg s1_ne]
    exact ans.ok (g2.z.trans hz1) ((F1.coV (Nat.le_refl _) f2).mo (fun _ h => h) (by omega) (by omega)) H2.ov ((f0.tr g1).tr (jq.jf g2))
  · simp only [k1, j1, xbR, bdS, if_pos nI_0]
    exact ans.th (List.mem_cons_self ..) F_s (by omega) (by omega) Q0.1.ov (f0.tr jq.t0)
end QQ
