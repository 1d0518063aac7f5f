/-! the plain law: when to stop -/
set_option maxRecDepth 100000
/-- on average -/
def avF (w : Int32) : Nat → Nat → Int32
  | 0, g => nI g * pwI 0
  | k + 1, g => if g = 0 then nI g * pwI (k + 1) else mxI (nI g * pwI (k + 1)) (w * avF w k (g + 1) + (nI 12 - w) * avF w k (g - 1))
def goF (w : Int32) (k g : Nat) : Int32 := w * avF w k (g + 1) + (nI 12 - w) * avF w k (g - 1)
theorem avF_s {w : Int32} {k g : Nat} : avF w (k + 1) g = if g = 0 then nI g * pwI (k + 1) else mxI (nI g * pwI (k + 1)) (goF w k g) := rfl
theorem K_avg {w : Int32} : ∀ (k N g : Nat), k < 20 → k < N → g + k ≤ 60 → KX1_averageN N (nI g) w (nI k) = some (avF w k g) := by
  intro k
  induction k with
  | zero =>
    intro N g hk hN h6
    obtain ⟨N, rfl⟩ : ∃ m, N = m + 1 := ⟨N - 1, by omega⟩
    show KX1_average (KX1_averageN N) (nI g) w (nI 0) = some (nI g * pwI 0)
    unfold KX1_average KX1_average_8
    rw [K_pow (show 0 < 100 by omega), if_pos nI_0]
    simp only [bdS]
    split <;> rfl
  | succ k ih =>
    intro N g hk hN h6
    obtain ⟨N, rfl⟩ : ∃ m, N = m + 1 := ⟨N - 1, by omega⟩
    show KX1_average (KX1_averageN N) (nI g) w (nI (k + 1)) = _
    unfold KX1_average KX1_average_8 KX1_going
    rw [K_pow (show k + 1 < 100 by omega), avF_s, if_neg (nI_ne0 (show 0 < k + 1 by omega) (by omega))]
    simp only [bdS]
    by_cases h2 : g = 0
    · rw [if_pos (by rw [h2]; exact nI_0), if_pos h2]
    · rw [if_neg (nI_ne0 (by omega) (by omega)), if_neg h2, nI_add, nI_1m, pk_sub (by omega), ih N (g + 1) (by omega) (by omega) (by omega), ih N (g - 1) (by omega) (by omega) (by omega)]
      simp only [bdS]
      rfl
theorem K_goF {w : Int32} {k g : Nat} (hk : k < 8) (h0 : 0 < g) (hg : g ≤ 50) : KX1_goingT (nI g) w (nI (k + 1)) = some (goF w k g) := by
  unfold KX1_goingT KX1_going
  rw [nI_add, nI_1m, pk_sub (by omega), K_avg k 9 (g + 1) (by omega) (by omega) (by omega), K_avg k 9 (g - 1) (by omega) (by omega) (by omega)]
  rfl
/-- whether one throws on -/
def onF (w : Int32) (m g0 : Nat) : Int32 := match m with
  | 0 => nI 0
  | k + 1 => if g0 = 0 then nI 0 else if goF w k g0 ≤ nI g0 * pwI (k + 1) then nI 0 else nI 1
theorem z_mul {x : Int32} : nI 0 * x = nI 0 := by rw [nI_0]; exact Int32.zero_mul
theorem mx_le {s t : Int32} : (if t ≤ s then s else t) = mxI s t := by
  unfold mxI
  by_cases h : t ≤ s
  · rw [if_pos h, if_neg (i_nle.mpr h)]
  · rw [if_neg h, if_pos (i_nlt.mp h)]
/-- rows that are laid: row k' up to 29 less k' -/
def isL (w : Int32) (T : tw_T) (k g : Nat) : Prop := (∀ j q, j < k → q < 29 - j → T.2.2 27 (30 * j + q) = avF w j q) ∧ ∀ q, q < g → T.2.2 27 (30 * k + q) = avF w k q
theorem J_stop_in {w : Int32} {m g0 : Nat} (hm : m ≤ 7) (h20 : g0 ≤ 20) (x4 : Int32) (k66 : Int32 → Int32 → Int32 → Int32 → Int32 → Int32 → tw_T → Option (Int32 × tw_T)) {k : Nat} (hk : k ≤ m) : ∀ (c g n : Nat) (T : tw_T) (th : Int32), isL w T k g → g + c = 29 - k → c < n → ∃ T' th', J_stop_75 k66 n (nI g0) w (nI m) x4 th (nI k) (nI g) T = k66 (nI g0) w (nI m) x4 th' (nI (k + 1)) T' ∧ isL w T' (k + 1) 0 ∧ jL T T' ∧ th' = (if k = m ∧ g ≤ g0 ∧ g0 < 29 - k then onF w m g0 else th) := by
  intro c
  induction c with
  | zero =>
    intro g n T th h hi hn
    obtain ⟨n, rfl⟩ : ∃ m, n = m + 1 := ⟨n - 1, by omega⟩
    refine ⟨T, th, ?_, ⟨fun j q hj hq => ?_, fun q hq => by omega⟩, jL.rf, ?_⟩
    · show B_stop_75 k66 (J_stop_75 k66 n) (nI g0) w (nI m) x4 th (nI k) (nI g) T = _
      unfold B_stop_75
      rw [pk_sub (by omega), if_pos (nI_le (by omega) (by omega)), nI_add]
    · by_cases e : j = k
      · subst e; exact h.2 q (by omega)
      · exact h.1 j q (by omega) hq
    · rw [if_neg (by omega)]
  | succ c ih =>
    intro g n T th h hi hn
    obtain ⟨n, rfl⟩ : ∃ m, n = m + 1 := ⟨n - 1, by omega⟩
    -- what is laid, and whether one throws on
    have go : ∀ (v on th1 : Int32), v = avF w k g → th1 = (if k = m ∧ g = g0 then onF w m g0 else th) → ∃ T' th', J_stop_196 k66 (J_stop_75 k66 n) (nI g0) w (nI m) x4 th1 (nI k) (nI g) (tw_A T 27 (upd (T.2.2 27) (30 * k + g) v)) = k66 (nI g0) w (nI m) x4 th' (nI (k + 1)) T' ∧ isL w T' (k + 1) 0 ∧ jL T T' ∧ th' = (if k = m ∧ g ≤ g0 ∧ g0 < 29 - k then onF w m g0 else th) := by
      intro v on th1 hv ht
      obtain ⟨T', th', s1, s2, s3, s4⟩ := ih (g + 1) n (tw_A T 27 (upd (T.2.2 27) (30 * k + g) v)) th1 ⟨fun j q hj hq => by
        rw [A_s, upd_n (by omega)]; exact h.1 j q hj hq, fun q hq => by
        rw [A_s]
        by_cases e : q = g
        · subst e; rw [upd_s, hv]
        · rw [upd_n (by omega)]; exact h.2 q (by omega)⟩ (by omega) (by omega)
      refine ⟨T', th', ?_, s2, jL.a.tr s3, ?_⟩
      · unfold J_stop_196
        rw [nI_add]
        exact s1
      · rw [s4, ht]
        by_cases e1 : k = m ∧ g = g0
        · rw [if_pos e1, if_pos (show k = m ∧ g ≤ g0 ∧ g0 < 29 - k by omega)]
          split <;> rfl
        · rw [if_neg e1]
          by_cases e2 : k = m ∧ g + 1 ≤ g0 ∧ g0 < 29 - k
          · rw [if_pos e2, if_pos (by omega)]
          · rw [if_neg e2, if_neg (by omega)]
    -- laying it
    have lay : ∀ (st gs : Int32), (if gs ≤ st then st else gs) = avF w k g → (k = m → g = g0 → (if gs ≤ st then nI 0 else nI 1) = onF w m g0) → ∃ T' th', J_stop_147 k66 (J_stop_75 k66 n) gs (nI g0) w (nI m) x4 th (nI k) (nI g) (nI (30 * k + g)) st T = k66 (nI g0) w (nI m) x4 th' (nI (k + 1)) T' ∧ isL w T' (k + 1) 0 ∧ jL T T' ∧ th' = (if k = m ∧ g ≤ g0 ∧ g0 < 29 - k then onF w m g0 else th) := by
      intro st gs hv ho
      have h169 : ∀ v, J_stop_169 k66 (J_stop_75 k66 n) (nI (30 * k + g)) v (nI g0) w (nI m) x4 th (nI k) (nI g) st gs T = J_stop_196 k66 (J_stop_75 k66 n) (nI g0) w (nI m) x4 (if k = m ∧ g = g0 then (if gs ≤ st then nI 0 else nI 1) else th) (nI k) (nI g) (tw_A T 27 (upd (T.2.2 27) (30 * k + g) v)) := by
        intro v
        unfold J_stop_169 J_stop_194
        simp only [nI_st (show 30 * k + g < 240 by omega) (show 240 < 2 ^ 31 by omega), bdS]
        by_cases e1 : k = m
        · rw [if_pos (show nI k = nI m by rw [e1])]
          by_cases e2 : g = g0
          · rw [if_pos (show nI g = nI g0 by rw [e2]), if_pos (show k = m ∧ g = g0 from ⟨e1, e2⟩)]
            by_cases eg : gs ≤ st
            · rw [if_pos eg, if_pos eg]
            · rw [if_neg eg, if_neg eg]
          · rw [if_neg (nI_nn e2 (by omega) (by omega)), if_neg (fun z => e2 z.2)]
        · rw [if_neg (nI_nn e1 (by omega) (by omega)), if_neg (fun z => e1 z.1)]
      have hth : (if k = m ∧ g = g0 then (if gs ≤ st then nI 0 else nI 1) else th) = (if k = m ∧ g = g0 then onF w m g0 else th) := by
        by_cases e : k = m ∧ g = g0
        · rw [if_pos e, if_pos e, ho e.1 e.2]
        · rw [if_neg e, if_neg e]
      unfold J_stop_147
      by_cases e : gs ≤ st
      · rw [if_pos e] at hv
        rw [if_pos e, h169]
        exact go st 0 _ hv hth
      · rw [if_neg e] at hv
        rw [if_neg e, h169]
        exact go gs 0 _ hv hth
    show ∃ T' th', B_stop_75 k66 (J_stop_75 k66 n) (nI g0) w (nI m) x4 th (nI k) (nI g) T = _ ∧ _
    unfold B_stop_75 J_stop_115
    rw [pk_sub (show k ≤ 29 by omega), if_neg (nI_ge (by omega) (by omega)), J_pow (show k < 100 by omega)]
    simp only [pk_mul, nI_add, bdS]
    cases k with
    | zero =>
      rw [if_pos (nI_0 : nI 0 = 0)]
      have hz : ∃ T' th', J_stop_147 k66 (J_stop_75 k66 n) (nI 0) (nI g0) w (nI m) x4 th (nI 0) (nI g) (nI (30 * 0 + g)) (nI g * pwI 0) T = k66 (nI g0) w (nI m) x4 th' (nI (0 + 1)) T' ∧ isL w T' (0 + 1) 0 ∧ jL T T' ∧ th' = (if 0 = m ∧ g ≤ g0 ∧ g0 < 29 - 0 then onF w m g0 else th) := by
        have hle : nI 0 ≤ nI g * pwI 0 := by
          rw [show pwI 0 = nI 1 from rfl, pk_mul]
          exact nI_le (by omega) (by omega)
        refine lay _ _ ?_ fun e1 e2 => ?_
        · rw [if_pos hle]; rfl
        · rw [if_pos hle, ← e1]; rfl
      split <;> exact hz
    | succ k =>
      by_cases h2 : g = 0
      · subst h2
        rw [if_pos nI_0]
        refine lay _ _ ?_ fun e1 e2 => ?_
        · rw [z_mul, if_pos (by rw [ti_le]; exact Int.le_refl _), avF_s, if_pos rfl, z_mul]
        · rw [z_mul, if_pos (by rw [ti_le]; exact Int.le_refl _), ← e1, ← e2]
          rfl
      · rw [if_neg (nI_ne0 (by omega) (by omega)), if_neg (nI_ne0 (by omega) (by omega)), pk_sub (show 29 ≤ 30 * (k + 1) + g by omega), pk_sub (show 31 ≤ 30 * (k + 1) + g by omega), nI_rd (by omega) (by omega), nI_rd (by omega) (by omega), show 30 * (k + 1) + g - 29 = 30 * k + (g + 1) by omega, show 30 * (k + 1) + g - 31 = 30 * k + (g - 1) by omega, h.1 k (g + 1) (by omega) (by omega), h.1 k (g - 1) (by omega) (by omega)]
        simp only [bdS]
        refine lay _ _ ?_ fun e1 e2 => ?_
        · rw [mx_le, avF_s, if_neg h2]; rfl
        · rw [← e1, ← e2, show onF w (k + 1) g = (if g = 0 then nI 0 else if goF w k g ≤ nI g * pwI (k + 1) then nI 0 else nI 1) from rfl, if_neg h2]
          rfl
theorem J_stop_out {w : Int32} {m g0 : Nat} (hm1 : 1 ≤ m) (hm : m ≤ 7) (h20 : g0 ≤ 20) (x4 : Int32) : ∀ (c k n : Nat) (T : tw_T) (th : Int32), isL w T k 0 → k + c = m + 1 → (k = m + 1 → th = onF w m g0) → c < n → ∃ T', J_stop_66 n (nI g0) w (nI m) x4 th (nI k) T = some (if x4 = 0 then avF w m g0 else onF w m g0, T') ∧ jL T T' := by
  intro c
  induction c with
  | zero =>
    intro k n T th h hi ht hn
    obtain ⟨n, rfl⟩ : ∃ m, n = m + 1 := ⟨n - 1, by omega⟩
    refine ⟨T, ?_, jL.rf⟩
    show B_stop_66 (J_stop_66 n) (nI g0) w (nI m) x4 th (nI k) T = _
    unfold B_stop_66 J_stop_237
    rw [if_pos (nI_lt (by omega) (by omega)), pk_mul, nI_add, nI_rd (by omega) (by omega), h.1 m g0 (by omega) (by omega), ht (by omega)]
    simp only [bdS]
    by_cases e : x4 = 0
    · rw [if_pos e, if_pos e]
    · rw [if_neg e, if_neg e]
      have ho : onF w m g0 = nI 0 ∨ onF w m g0 = nI 1 := by
        unfold onF
        split
        · exact Or.inl rfl
        · split
          · exact Or.inl rfl
          · split
            · exact Or.inl rfl
            · exact Or.inr rfl
      rcases ho with ho | ho
      · rw [ho, if_pos nI_0]
      · rw [ho, if_neg s1_ne]
  | succ c ih =>
    intro k n T th h hi ht hn
    obtain ⟨n, rfl⟩ : ∃ m, n = m + 1 := ⟨n - 1, by omega⟩
    obtain ⟨T1, th1, s1, s2, s3, s4⟩ := J_stop_in (w := w) (g0 := g0) hm h20 x4 (J_stop_66 n) (k := k) (by omega) (29 - k) 0 NN T th h (by omega) (by unfold NN; omega)
    obtain ⟨T2, u1, u2⟩ := ih (k + 1) n T1 th1 s2 (by omega) (fun e => by rw [s4, if_pos (by omega)]) (by omega)
    refine ⟨T2, ?_, s3.tr u2⟩
    show B_stop_66 (J_stop_66 n) (nI g0) w (nI m) x4 th (nI k) T = _
    unfold B_stop_66
    rw [if_neg (nI_nlt (by omega) (by omega)), s1]
    exact u1
section TS
variable {σ : vv_S} {T : tw_T} {x0 pa va ca a : Nat} {h0 : Nat → Option vv_E} {P : pvT} {R : Nat → Int32} {lo : Int32}
theorem o_stop (Q : isQ x0 h0 pa va ca P R lo σ T) (x1 x2 x3 x4 : Int32) : ans va 20 200 [(nse, nI 1), (iae, nI 2)] σ T (KX1_stop x0 x1 x2 x3 x4 σ) (J_stop x1 x2 x3 x4 T) := by
  obtain ⟨T0, e0, Q0, hz, f0⟩ := Q.z
  unfold KX1_stop J_stop KX1_stop_40 KX1_stop_41 J_stop_50 J_stop_51 J_stop_58 KX1_stop_79 KX1_stop_80
  have bad : ans va 20 200 [(nse, nI 1), (iae, nI 2)] σ T (some (.inr ((iae, σ.2.1), tS σ))) (some (nI 0, tw_F T0 0 (nI 2))) := ans.th (List.mem_cons_of_mem _ (List.mem_cons_self ..)) F_s (by omega) (by omega) Q0.1.ov (f0.tr jq.t0)
  simp only [e0, bdS]
  rcases g_what (σ := σ) hz x4 (m := 1) (by omega) with ⟨y, hy, rfl, k0, j0⟩ | ⟨k0, j0⟩
  · simp only [k0, j0, bdS, xbL, K_right0, xbR, J_right0 hz (c := nI 2) (by decide), if_pos nI_0, K_right1, J_right1 hz, if_neg s1_ne]
    rcases g_in hz x1 (a := 0) (b := 20) (by omega) (by omega) (c := nI 1) s1_ne with ⟨g0, -, hg0, rfl, k1, j1⟩ | ⟨k1, j1⟩
    · rcases g_in hz x2 (a := 0) (b := 12) (by omega) (by omega) (c := nI 1) s1_ne with ⟨w, -, hw, rfl, k2, j2⟩ | ⟨k2, j2⟩
      · rcases g_in hz x3 (a := 1) (b := 7) (by omega) (by omega) (c := nI 1) s1_ne with ⟨m, hm1, hm, rfl, k3, j3⟩ | ⟨k3, j3⟩
        · obtain ⟨T1, s1, f1⟩ := J_stop_out (w := nI w) hm1 hm hg0 (nI y) (m + 1) 0 NN T0 (nI 0) ⟨fun j q hj => by omega, fun q hq => by omega⟩ (by omega) (fun e => by omega) (by unfold NN; omega)
          have e1 : KX1_averageT (nI g0) (nI w) (nI m) = some (avF (nI w) m g0) := K_avg m 15 g0 (by omega) (by omega) (by omega)
          have fin : ans va 20 200 [(nse, nI 1), (iae, nI 2)] σ T (some (.inl (if nI y = 0 then avF (nI w) m g0 else onF (nI w) m g0, σ))) (some (if nI y = 0 then avF (nI w) m g0 else onF (nI w) m g0, T1)) := ans.ok ((congrFun f1.1 0).trans hz) (fa.rf.mo (fun _ h => h) (by omega) (by omega)) Q0.1.ov (f0.tr f1.q)
          simp only [k1, j1, k2, j2, k3, j3, bdS, if_neg s1_ne, e1, s1]
          by_cases hy0 : nI y = 0
          · rw [if_pos hy0] at fin
            rw [if_pos hy0, if_pos hy0]
            exact fin
          · rw [if_neg hy0] at fin
            rw [if_neg hy0, if_neg hy0]
            obtain ⟨k, rfl⟩ : ∃ k, m = k + 1 := ⟨m - 1, by omega⟩
            by_cases hg : g0 = 0
            · subst hg
              rw [if_pos (show nI 0 ≤ 0 by rw [nI_0, ti_le]; exact Int.le_refl _)]
              exact fin
            · rw [if_neg (show ¬ nI g0 ≤ 0 from nI_nle (by omega) (by omega)), K_goF (by omega) (by omega) (by omega), K_pow (by omega)]
              simp only [bdS]
              have eo : onF (nI w) (k + 1) g0 = if goF (nI w) k g0 ≤ nI g0 * pwI (k + 1) then nI 0 else nI 1 := by
                show (if g0 = 0 then nI 0 else _) = _
                rw [if_neg hg]
              rw [eo] at fin ⊢
              by_cases hc : goF (nI w) k g0 ≤ nI g0 * pwI (k + 1)
              · rw [if_pos hc] at fin
                rw [if_pos hc, if_pos hc]
                exact fin
              · rw [if_neg hc] at fin
                rw [if_neg hc, if_neg hc]
                exact fin
        · simp only [k1, j1, k2, j2, k3, j3, bdS, if_neg s1_ne, if_pos nI_0]
          exact bad
      · simp only [k1, j1, k2, j2, bdS, if_neg s1_ne, if_pos nI_0]
        exact bad
    · simp only [k1, j1, bdS, if_pos nI_0]
      exact bad
  · simp only [k0, j0, xbR, bdS, if_pos nI_0]
    exact ans.th (List.mem_cons_self ..) F_s (by omega) (by omega) Q0.1.ov (f0.tr jq.t0)
end TS
