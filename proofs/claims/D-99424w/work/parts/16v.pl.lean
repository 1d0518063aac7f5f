/-! the plain law: years by chance -/
set_option maxRecDepth 100000
def sdF (s : Int32) : Int32 := s * nI 1103515245 + nI 12345
def drw (m s : Int32) : Option Int32 := rmI ((s >>> (nI 16 &&& 31)) &&& nI 32767) m
theorem and_15 (x : Int32) : ∃ v, v ≤ 32767 ∧ x &&& nI 32767 = nI v := by
  refine ⟨x.toBitVec.toNat &&& 32767, Nat.and_le_right, ?_⟩
  apply Int32.toBitVec_inj.mp
  show x.toBitVec &&& BitVec.ofNat 32 32767 = BitVec.ofNat 32 (x.toBitVec.toNat &&& 32767)
  apply BitVec.eq_of_toNat_eq
  have h : x.toBitVec.toNat &&& 32767 ≤ 32767 := Nat.and_le_right
  rw [BitVec.toNat_and, BitVec.toNat_ofNat, BitVec.toNat_ofNat, Nat.mod_eq_of_lt (by decide), Nat.mod_eq_of_lt (by omega)]
theorem dr_e (s : Int32) {m : Nat} (h0 : 0 < m) (hm : m < 2 ^ 31) : ∃ v, v < m ∧ drw (nI m) s = some (nI v) := by
  obtain ⟨v, h1, h2⟩ := and_15 (s >>> (nI 16 &&& 31))
  refine ⟨v % m, Nat.mod_lt _ h0, ?_⟩
  unfold drw
  rw [h2, rm_n (by omega) h0 hm]
/-- the twin's: lasting parts, the throw -/
def jy (T T' : tw_T) : Prop := jq T T' ∧ T'.1 0 = T.1 0
theorem jy.rf {T : tw_T} : jy T T := ⟨jq.rf, rfl⟩
theorem jy.tr {T T1 T2 : tw_T} (h1 : jy T T1) (h2 : jy T1 T2) : jy T T2 := ⟨h1.1.tr h2.1, h2.2.trans h1.2⟩
theorem jy.jf {T T' : tw_T} (h : jfr 85 T T') : jy T T' := ⟨jq.jf h, h.z⟩
theorem jy.s {T : tw_T} {v : Int32} : jy T (tw_F T 56 v) := ⟨jq.F (by omega), F_n (by decide)⟩
abbrev coX (a va x0 : Nat) : Nat → Prop := fun q => coV a va q ∨ q = x0
section YY
variable {σ : vv_S} {T : tw_T} {x0 pa va ca a : Nat} {h0 : Nat → Option vv_E} {P : pvT} {R : Nat → Int32} {lo : Int32} {fs : List Value} {s : Int32}
def sdX (x0 : Nat) (fs : List Value) (s : Int32) (σ : vv_S) : Prop := σ.1 x0 = some (true, .inr (0, fs.set 14 (.int s)))
/-- the seed set -/
theorem K_seed {l : List Value} (H : isEnv σ x0 h0 pa va P) (hx : σ.1 x0 = some (true, .inr (0, l))) (hl : l.length = 15) (h00 : h0 x0 = none) (s : Int32) : ∃ σ', pF σ x0 0 14 (.int s) = some σ' ∧ σ'.1 x0 = some (true, .inr (0, l.set 14 (.int s))) ∧ isEnv σ' x0 h0 pa va P ∧ fr (fun q => q = x0) σ σ' ∧ ∀ k, k ≠ 14 → gV σ' x0 0 k = gV σ x0 0 k := by
  obtain ⟨h1, h2, h3, h4, h5, h6, u, h7⟩ := H
  have hs : (vv_up σ.1 x0 (true, .inr (0, l.set 14 (.int s)))) x0 = some (true, .inr (0, l.set 14 (.int s))) := vv_up_at
  have hn : ∀ q, q ≠ x0 → (vv_up σ.1 x0 (true, .inr (0, l.set 14 (.int s)))) q = σ.1 q := fun q hq => up_n hq
  have hg : ∀ k, k ≠ 14 → gV ((vv_up σ.1 x0 (true, .inr (0, l.set 14 (.int s))), σ.2) : vv_S) x0 0 k = gV σ x0 0 k := fun k hk => by
    unfold gV
    dsimp only
    rw [hs, hx]
    dsimp only
    rw [if_pos rfl, if_pos rfl, List.getElem?_set_ne (fun e => hk e.symm)]
  have hv : va ≠ x0 := fun e => by rw [e, hx] at h7; cases h7
  refine ⟨(vv_up σ.1 x0 (true, .inr (0, l.set 14 (.int s))), σ.2), ?_, hs, ⟨fun q e he => ?_, h2, ?_, ?_, ?_, h6, u, ?_⟩, ⟨rfl, hn⟩, hg⟩
  · unfold pF
    rw [hx]
    dsimp only
    rw [if_pos ⟨rfl, by omega⟩]
  · by_cases e1 : q = x0
    · rw [e1, h00] at he; cases he
    · show (vv_up σ.1 x0 (true, .inr (0, l.set 14 (.int s)))) q = _
      rw [hn q e1]; exact h1 q e he
  · unfold isO
    dsimp only
    rw [hs]
    unfold isO at h3
    rw [hx] at h3
    exact h3
  · unfold gR; rw [hg 1 (by decide)]; exact h4
  · unfold gR; rw [hg 0 (by decide)]; exact h5
  · show (vv_up σ.1 x0 (true, .inr (0, l.set 14 (.int s)))) va = _
    rw [hn va hv]; exact h7
theorem K_draw (H : isEnv σ x0 h0 pa va P) (hx : sdX x0 fs s σ) (hl : fs.length = 15) (h00 : h0 x0 = none) {m v : Nat} (hv : drw (nI m) (sdF s) = some (nI v)) : ∃ σ', KX1_draw x0 (nI m) σ = some (nI v, σ') ∧ sdX x0 fs (sdF s) σ' ∧ isEnv σ' x0 h0 pa va P ∧ fr (fun q => q = x0) σ σ' := by
  obtain ⟨σ', s1, s2, s3, s4, -⟩ := K_seed H hx (by rw [List.length_set]; exact hl) h00 (sdF s)
  have g0 : gI σ x0 0 14 = some s := by
    unfold gI gV
    rw [hx]
    dsimp only
    rw [if_pos rfl, List.getElem?_set_self (by omega)]
    rfl
  rw [List.set_set] at s2
  have g1 : gI σ' x0 0 14 = some (sdF s) := by
    unfold gI gV
    rw [s2]
    dsimp only
    rw [if_pos rfl, List.getElem?_set_self (by omega)]
    rfl
  have s1 : pF σ x0 0 14 (.int (s * nI 1103515245 + nI 12345)) = some σ' := s1
  have hv : rmI ((sdF s >>> (nI 16 &&& 31)) &&& nI 32767) (nI m) = some (nI v) := hv
  refine ⟨σ', ?_, s2, s3, s4⟩
  unfold KX1_draw
  simp only [g0, s1, g1, hv, bdS]
theorem J_draw_e (hs : T.1 56 = s) {m v : Nat} (hv : drw (nI m) (sdF s) = some (nI v)) : J_draw (nI m) T = some (nI v, tw_F T 56 (sdF s)) := by
  have hv : rmI ((sdF s >>> (nI 16 &&& 31)) &&& nI 32767) (nI m) = some (nI v) := hv
  have e : T.1 56 * nI 1103515245 + nI 12345 = sdF s := by rw [hs]; rfl
  unfold J_draw
  simp only [e, F_s, hv, bdS]
/-- both, by chance -/
def yB (x0 : Nat) (h0 : Nat → Option vv_E) (pa va : Nat) (P : pvT) (fs : List Value) (a : Nat) (R : Nat → Int32) (s : Int32) (σ : vv_S) (T : tw_T) : Prop := ∃ lo, isEnv σ x0 h0 pa va P ∧ isCo σ x0 a R lo ∧ sdX x0 fs s σ ∧ isRw T 85 R ∧ isTp T P ∧ invR P R ∧ T.1 56 = s
theorem sdX.f {σ' : vv_S} {S : Nat → Prop} (h : sdX x0 fs s σ) (f : fr S σ σ') (hS : ¬ S x0) : sdX x0 fs s σ' := (f.2 x0 hS).trans h
theorem co_x (H : isEnv σ x0 h0 pa va P) (h : isCo σ x0 a R lo) {σ' : vv_S} (f : fr (fun q => q = x0) σ σ') : isCo σ' x0 a R lo := h.ke fun q h1 h2 => f.n1 fun e => ev_xco H h (by rw [← e]; exact ⟨h1, h2⟩)
theorem va_x (H : isEnv σ x0 h0 pa va P) : x0 ≠ va := fun e => by
  obtain ⟨h1, h2, h3, h4, h5, h6, u, h7⟩ := H
  unfold isO at h3
  rw [e, h7] at h3
  cases h3
/-- the towns of a day -/
theorem y_towns (cx : six P ∧ invP P) (hl : fs.length = 15) (h00 : h0 x0 = none) (hd : ∀ q, coA a q → h0 q = none) (k38 : Int32 → Int32 → Int32 → tw_T → Option (Int32 × tw_T)) (x2 x3 x4 : Int32) : ∀ (c i n n' : Nat) (σ : vv_S) (T : tw_T) (R : Nat → Int32) (s : Int32), yB x0 h0 pa va P fs a R s σ T → i + c = P.1.1 → c < n → c < n' → ∃ σ' T' R' s', KX3_pass_42 (KX_fo 80) n a (nI 1) (nI i) σ = some (a, σ') ∧ J_years_57 k38 n' x2 x3 x4 (nI i) T = k38 x2 x3 (x4 + nI 1) T' ∧ yB x0 h0 pa va P fs a R' s' σ' T' ∧ fr (coX a va x0) σ σ' ∧ jy T T' := by
  intro c
  induction c with
  | zero =>
    intro i n n' σ T R s B hi hn hn'
    obtain ⟨n, rfl⟩ : ∃ m, n = m + 1 := ⟨n - 1, by omega⟩
    obtain ⟨n', rfl⟩ : ∃ m, n' = m + 1 := ⟨n' - 1, by omega⟩
    obtain ⟨lo, H, c0, x0', r0, p0, i0, t0⟩ := B
    have h8 := ev_8 H
    show ∃ σ' T' R' s', BKX3_pass_42 (KX_fo 80) (KX3_pass_42 (KX_fo 80) n) a (nI 1) (nI i) σ = _ ∧ B_years_57 k38 (J_years_57 k38 n') x2 x3 x4 (nI i) T = _ ∧ _
    unfold BKX3_pass_42 B_years_57
    obtain ⟨σ1, s1, c1, f1⟩ := co_p9 c0 (v := R 0 + nI 1)
    obtain ⟨T1, u1, r1, g1⟩ := rw_st r0 (by omega) (k := 0) (v := R 0 + nI 1) (by omega)
    have u1 : stA T 20 170 (nI 85) (R 0 + nI 1) = some T1 := u1
    have e0 : rdI 170 (T.2.2 20) (nI 85) = some (R 0) := rd85 r0 (k := 0) (by omega) rfl us_0
    simp only [co_11 c0, ev_pa H, ev_o H, ev_tw H, bdS, p0.1]
    rw [if_pos (nI_le (by omega) (by omega)), if_pos (nI_le (by omega) (by omega)), co_9 c0]
    simp only [s1, e0, u1, bdS]
    exact ⟨σ1, T1, _, s, rfl, rfl, ⟨lo, ev_co H c0 hd f1, c1, x0'.f f1 (ev_xco H c0), r1, p0.jf g1, inv_day0 i0, (g1.2.1 56 (by decide)).trans t0⟩, f1.mo fun q hq => Or.inl (Or.inl hq), jy.jf g1⟩
  | succ c ih =>
    intro i n n' σ T R s B hi hn hn'
    obtain ⟨n, rfl⟩ : ∃ m, n = m + 1 := ⟨n - 1, by omega⟩
    obtain ⟨n', rfl⟩ : ∃ m, n' = m + 1 := ⟨n' - 1, by omega⟩
    obtain ⟨lo, H, c0, x0', r0, p0, i0, t0⟩ := B
    have h8 := ev_8 H
    have h10 := ev_10 H
    show ∃ σ' T' R' s', BKX3_pass_42 (KX_fo 80) (KX3_pass_42 (KX_fo 80) n) a (nI 1) (nI i) σ = _ ∧ B_years_57 k38 (J_years_57 k38 n') x2 x3 x4 (nI i) T = _ ∧ _
    unfold BKX3_pass_42 KX3_pass_127 KX3_pass_144 B_years_57 J_years_105
    obtain ⟨lm, q1, a1, a2, a3, a4, a5⟩ := ev_mk H (show i < P.1.1 by omega)
    obtain ⟨v, hv, ev⟩ := dr_e (sdF s) (m := 12) (by omega) (by omega)
    obtain ⟨σ1, s1, c1, f1⟩ := K_give c0 (t := i) (by omega) (v := P.2.1 0 i)
    have H1 := ev_co H c0 hd f1
    obtain ⟨σ2, s2, x2', H2, f2⟩ := K_draw H1 (x0'.f f1 (ev_xco H c0)) hl h00 ev
    have c2 := co_x H1 c1 f2
    obtain ⟨σ3, s3, H3, c3, f3⟩ := K_odds H2 c2 cx.1 (t := i) (by omega)
    have x3' := x2'.f f3 (va_x H2)
    obtain ⟨T1, u1, r1, g1⟩ := J_makes_e r0 (by omega) p0 i0 cx.2 (t := i) (by omega) h8
    have p1 := p0.jf g1
    have i1 := inv_makes i0 cx.2 h8 (t := i) (by omega)
    obtain ⟨T2, u2, r2, p2, q2, g2⟩ := J_odds_e r1 (by omega) p1 h8 h10 cx.1 (t := i) (by omega)
    have t2 : T2.1 56 = s := by rw [q2]; exact (g1.2.1 56 (by decide)).trans t0
    have u3 := J_draw_e t2 ev
    have r3 : isRw (tw_F T2 56 (sdF s)) 85 (giveR R i (P.2.1 0 i)) := r2.of rfl
    have p3 : isTp (tw_F T2 56 (sdF s)) P := p2.jq (jy.s (T := T2)).1
    have gA : jy T (tw_F T2 56 (sdF s)) := ((jy.jf g1).tr (jy.jf g2)).tr jy.s
    have e11 : gR σ1 a 2 11 = some x0 := co_11 c1
    simp only [co_11 c0, ev_pa H, ev_o H, ev_tw H, bdS, a1, a2, a3, a4, a5, co_o c0, s1, p0.1, u1, u2, u3, nI_add]
    rw [if_neg (nI_ge (show i < P.1.1 by omega) (by omega)), if_neg (nI_ge (show i < P.1.1 by omega) (by omega)), if_neg s1_ne]
    simp only [e11, ev_x H1, s2, co_o c2, s3, bdS]
    have fA : fr (coX a va x0) σ σ3 := ((f1.mo fun q hq => Or.inl (Or.inl hq)).tr (f2.mo fun q hq => Or.inr hq)).tr (f3.mo fun q hq => Or.inl (Or.inr hq))
    by_cases hw : oddR P (giveR R i (P.2.1 0 i)) i ≤ nI v
    · rw [if_pos hw, if_pos hw, if_pos nI_0, co_10 c3]
      obtain ⟨σ4, s4, c4, f4⟩ := co_p10 c3 (v := lo ||| ((nI 1) <<< (nI i &&& 31)))
      have H4 := ev_co H3 c3 hd f4
      obtain ⟨σ5, s5, c5, f5⟩ := K_fares H4 c4 (t := i) (by omega) false
      have s5 : KX3_fares a (nI i) (nI 0) σ4 = some σ5 := s5
      obtain ⟨T4, u4, r4, g4⟩ := J_stakes_0 r3 (by omega) p3 i1 cx.2 (t := i) (by omega) h8
      obtain ⟨σ6, T6, R6, s6', s6, u6, B6, f6, g6⟩ := ih (i + 1) n n' σ5 T4 _ (sdF s) ⟨_, ev_co H4 c4 hd f5, c5, (x3'.f f4 (ev_xco H3 c3)).f f5 (ev_xco H4 c4), r4, p3.jf g4, inv_fares i1 cx.2 h8 (by omega) false, (g4.2.1 56 (by decide)).trans F_s⟩ (by omega) (by omega) (by omega)
      simp only [s4, co_o c4, s5, u4, s6, u6, bdS]
      exact ⟨σ6, T6, R6, s6', rfl, rfl, B6, ((fA.tr (f4.mo fun q hq => Or.inl (Or.inl hq))).tr (f5.mo fun q hq => Or.inl (Or.inl hq))).tr f6, (gA.tr (jy.jf g4)).tr g6⟩
    · rw [if_neg hw, if_neg hw, if_neg s1_ne]
      obtain ⟨σ5, s5, c5, f5⟩ := K_fares H3 c3 (t := i) (by omega) true
      have s5 : KX3_fares a (nI i) (nI 1) σ3 = some σ5 := s5
      obtain ⟨T4, u4, r4, g4⟩ := J_stakes_1 r3 (by omega) p3 i1 cx.2 (t := i) (by omega) h8
      obtain ⟨σ6, T6, R6, s6', s6, u6, B6, f6, g6⟩ := ih (i + 1) n n' σ5 T4 _ (sdF s) ⟨_, ev_co H3 c3 hd f5, c5, x3'.f f5 (ev_xco H3 c3), r4, p3.jf g4, inv_fares i1 cx.2 h8 (by omega) true, (g4.2.1 56 (by decide)).trans F_s⟩ (by omega) (by omega) (by omega)
      simp only [co_o c3, s5, u4, s6, u6, bdS]
      exact ⟨σ6, T6, R6, s6', rfl, rfl, B6, (fA.tr (f5.mo fun q hq => Or.inl (Or.inl hq))).tr f6, (gA.tr (jy.jf g4)).tr g6⟩
end YY
