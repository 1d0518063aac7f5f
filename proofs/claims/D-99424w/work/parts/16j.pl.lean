/-! the plain law: far, leak, a bridge, the hub -/
set_option maxRecDepth 100000
/-- alike: as far as can be in both, or the same -/
def rel2 (u v : Nat) : Prop := (u = 100000 ∧ v = 99999) ∨ (u ≤ 15552 ∧ v = u)
theorem K_told_e {u : Nat} (hu : u ≤ 100000) : KX1_told (nI u) = some (if u < 100000 then nI u else -1) := by
  unfold KX1_told KX1_told_11
  by_cases h : u < 100000
  · rw [if_pos (nI_lt h (by omega)), if_pos h]
  · rw [if_neg (nI_nlt (by omega) (by omega)), if_neg h]
theorem J_orNone_e {v : Nat} (hv : v ≤ 99999) : J_orNone (nI v) = some (if v < 99999 then nI v else -1) := by
  unfold J_orNone J_orNone_12
  by_cases h : v < 99999
  · rw [if_pos (nI_lt h (by omega)), if_pos h]
  · rw [if_neg (nI_nlt (by omega) (by omega)), if_neg h]
theorem rel2_told {u v : Nat} (h : rel2 u v) : KX1_told (nI u) = some (if u < 100000 then nI u else -1) ∧ J_orNone (nI v) = some (if u < 100000 then nI u else -1) := by
  rcases h with ⟨rfl, rfl⟩ | ⟨h, rfl⟩
  · exact ⟨K_told_e (Nat.le_refl _), J_orNone_e (Nat.le_refl _)⟩
  · refine ⟨K_told_e (by omega), ?_⟩
    rw [J_orNone_e (by omega), if_pos (by omega), if_pos (by omega)]
section WZ
variable {σ : vv_S} {T : tw_T} {x0 pa va ca r : Nat} {h0 : Nat → Option vv_E} {P : pvT} {R : Nat → Int32} {lo : Int32} {bt : Nat} {lk : Bool}
theorem wy_rel (hQ : invP P) (hW : wyP P) (h8 : P.1.1 ≤ 8) (h12 : P.1.2.1 ≤ 12) {a b : Nat} (ha : a < P.1.1) (hb : b < P.1.1) : rel2 (bfx (wyE P lk bt) P.1.1 a b) (fwx (wyE P lk bt) P.1.1 a b) := by
  rcases bf_fw (wy_ok (lk := lk) (bt := bt) hQ h8 hW) (wy_un hQ h8 hW) h12 h8 ha hb with ⟨h1, h2⟩ | ⟨h1, h2⟩
  · exact Or.inl ⟨h1, h2⟩
  · exact Or.inr ⟨h1, h2⟩
theorem wy_sy (hQ : invP P) (hW : wyP P) (h8 : P.1.1 ≤ 8) {a b : Nat} (ha : a < P.1.1) (hb : b < P.1.1) : fwx (wyE P lk bt) P.1.1 a b = fwx (wyE P lk bt) P.1.1 b a := fw_sy (wy_ok hQ h8 hW) (wy_un hQ h8 hW) ha hb
theorem m1_99n (h12 : P.1.2.1 ≤ 12) : ∀ w, w < P.1.2.1 → (nI w = -1 ↔ w = 99) := fun w hw => ⟨fun e => absurd e (nI_m1 (by omega)), fun e => by omega⟩
theorem jm.z {T T' : tw_T} (h : jm T T') : T'.1 0 = T.1 0 := congrFun h.1 0
theorem o_far (Q : isQ x0 h0 pa va ca P R lo σ T) (hW : wyP P) (x1 x2 : Int32) : ans va 20 200 [(nse, nI 1)] σ T (KX1_far x0 x1 x2 σ) (J_far x1 x2 T) := by
  obtain ⟨T0, e0, Q0, hz, f0⟩ := Q.z
  unfold KX1_far J_far J_far_21
  simp only [e0, bdS, ev_x Q0.1]
  rcases g_town Q0.1 Q0.tp hz x1 with ⟨t, ht, rfl, k1, j1⟩ | ⟨k1, j1⟩
  · rcases g_town Q0.1 Q0.tp hz x2 with ⟨u, hu, rfl, k2, j2⟩ | ⟨k2, j2⟩
    · have h8 := ev_8 Q0.1
      have h12 := ev_12 Q0.1
      obtain ⟨σ1, s1, y1, H1, F1, z1⟩ := K_least (lk := false) Q0 ht
      have s1 : KX2_least pa (nI t) (nI 0) σ = some (σ.2.1, σ1) := s1
      obtain ⟨T1, u1, d1, g1⟩ := J_measures_e Q0.tp Q0.cx.2 hW h8 h12 (m1_99n h12)
      have r1 := y1.rd (t := u) (by omega)
      have r2 := (d_rd d1 (a := t) (b := u) (by omega) (by omega)).1
      obtain ⟨q1, q2⟩ := rel2_told (wy_rel (lk := false) (bt := 99) Q0.cx.2 hW h8 h12 ht hu)
      simp only [k1, j1, k2, j2, xbL, bdS, if_neg s1_ne, ev_x Q0.1, ev_pa Q0.1, ev_o Q0.1, s1, u1, r1, pk_mul, nI_add, r2, q1, q2]
      exact ans.ok (g1.z.trans hz) (F1.mo (fun _ h => h) (by omega) (by omega)) H1.ov (f0.tr g1.jq)
    · simp only [k1, j1, k2, j2, xbL, xbR, bdS, if_neg s1_ne, if_pos nI_0, ev_x Q0.1]
      exact ans.th (List.mem_cons_self ..) F_s (by omega) (by omega) Q0.1.ov (f0.tr jq.t0)
  · simp only [k1, j1, xbR, bdS, if_pos nI_0]
    exact ans.th (List.mem_cons_self ..) F_s (by omega) (by omega) Q0.1.ov (f0.tr jq.t0)
theorem o_leak (Q : isQ x0 h0 pa va ca P R lo σ T) (hW : wyP P) (x1 x2 : Int32) : ans va 20 200 [(nse, nI 1)] σ T (KX1_leak x0 x1 x2 σ) (J_leak x1 x2 T) := by
  obtain ⟨T0, e0, Q0, hz, f0⟩ := Q.z
  unfold KX1_leak J_leak J_leak_21
  simp only [e0, bdS, ev_x Q0.1]
  rcases g_town Q0.1 Q0.tp hz x1 with ⟨t, ht, rfl, k1, j1⟩ | ⟨k1, j1⟩
  · rcases g_town Q0.1 Q0.tp hz x2 with ⟨u, hu, rfl, k2, j2⟩ | ⟨k2, j2⟩
    · have h8 := ev_8 Q0.1
      have h12 := ev_12 Q0.1
      obtain ⟨σ1, s1, y1, H1, F1, z1⟩ := K_least (lk := true) Q0 ht
      have s1 : KX2_least pa (nI t) (nI 1) σ = some (σ.2.1, σ1) := s1
      obtain ⟨T1, u1, d1, g1⟩ := J_measures_e Q0.tp Q0.cx.2 hW h8 h12 (m1_99n h12)
      have r1 := y1.rd (t := u) (by omega)
      have r2 := (d_rd d1 (a := t) (b := u) (by omega) (by omega)).2
      obtain ⟨q1, q2⟩ := rel2_told (wy_rel (lk := true) (bt := 99) Q0.cx.2 hW h8 h12 ht hu)
      simp only [k1, j1, k2, j2, xbL, bdS, if_neg s1_ne, ev_x Q0.1, ev_pa Q0.1, ev_o Q0.1, s1, u1, r1, pk_mul, nI_add, r2, q1, q2]
      exact ans.ok (g1.z.trans hz) (F1.mo (fun _ h => h) (by omega) (by omega)) H1.ov (f0.tr g1.jq)
    · simp only [k1, j1, k2, j2, xbL, xbR, bdS, if_neg s1_ne, if_pos nI_0, ev_x Q0.1]
      exact ans.th (List.mem_cons_self ..) F_s (by omega) (by omega) Q0.1.ov (f0.tr jq.t0)
  · simp only [k1, j1, xbR, bdS, if_pos nI_0]
    exact ans.th (List.mem_cons_self ..) F_s (by omega) (by omega) Q0.1.ov (f0.tr jq.t0)
theorem o_bridge (Q : isQ x0 h0 pa va ca P R lo σ T) (hW : wyP P) (x1 : Int32) : ans va 20 200 [(nse, nI 1)] σ T (KX1_bridge x0 x1 σ) (J_bridge x1 T) := by
  obtain ⟨T0, e0, Q0, hz, f0⟩ := Q.z
  have h8 := ev_8 Q0.1
  have h12 := ev_12 Q0.1
  obtain ⟨lw, l1, l2, l3, l4⟩ := ev_lw Q0.1
  unfold KX1_bridge J_bridge KX1_bridge_63 J_bridge_52
  simp only [e0, bdS, ev_pa Q0.1, l1, l2, l3]
  rcases g_way (σ := σ) h12 Q0.tp hz x1 with ⟨w, hw, rfl, k1, j1⟩ | ⟨k1, j1⟩
  · obtain ⟨⟨a1, a2⟩, ⟨b1, b2⟩, -⟩ := wy_n Q0.cx.2 h8 hw
    obtain ⟨q, q1, q2, q3, q4, -, -, e, he⟩ := l4 w hw
    rw [a2] at q3
    rw [b2] at q4
    have hbt : ∀ u, u < P.1.2.1 → (nI u = nI w ↔ u = w) := fun u hu => nI_eq (by omega) (by omega)
    obtain ⟨σ1, s1, y1, H1, F1, z1⟩ := K_least2 (lk := false) Q0 hbt a1
    have s1 : KX2_least_2 pa (nI (wN P 2 w)) (nI 0) (nI w) σ = some (σ.2.1, σ1) := s1
    have q5 : gI σ1 q 6 1 = some (nI (wN P 3 w)) := (gI_eq ((H1.1 q e he).trans (Q0.1.1 q e he).symm)).trans q4
    obtain ⟨T1, u1, d1, g1⟩ := J_measures_e Q0.tp Q0.cx.2 hW h8 h12 hbt
    have p1 := Q0.tp.jm g1
    obtain ⟨w1, w2, -⟩ := p1.2.2.2.2.1 w hw
    have m1 : rdI 12 (T1.2.2 3) (nI w) = some (nI (wN P 2 w)) := by rw [nI_rd (by omega) (by omega), w1, a2]
    have m2 : rdI 12 (T1.2.2 4) (nI w) = some (nI (wN P 3 w)) := by rw [nI_rd (by omega) (by omega), w2, b2]
    have r1 := y1.rd (t := wN P 3 w) (by omega)
    have r2 := (d_rd d1 (a := wN P 2 w) (b := wN P 3 w) (by omega) (by omega)).1
    have hrel := wy_rel (lk := false) (bt := w) Q0.cx.2 hW h8 h12 a1 b1
    simp only [k1, j1, xbL, bdS, if_neg s1_ne, ev_pa Q0.1, ev_o Q0.1, l1, l2, q1, q2, q3, s1, q5, r1, u1, m1, m2, pk_mul, nI_add, r2, zr0, zr1]
    have F2 := F1.mo (n' := 20) (m' := 200) (fun _ h => h) (by omega) (by omega)
    rcases hrel with ⟨c1, c2⟩ | ⟨c1, c2⟩
    · rw [if_neg (nI_nlt (by omega) (by omega)), if_neg (nI_nlt (by omega) (by omega))]
      exact ans.ok (g1.z.trans hz) F2 H1.ov (f0.tr g1.jq)
    · rw [if_pos (nI_lt (by omega) (by omega)), if_pos (nI_lt (by omega) (by omega))]
      exact ans.ok (g1.z.trans hz) F2 H1.ov (f0.tr g1.jq)
  · simp only [k1, j1, xbR, bdS, if_pos nI_0]
    exact ans.th (List.mem_cons_self ..) F_s (by omega) (by omega) Q0.1.ov (f0.tr jq.t0)
/-! the hub -/
theorem mx_nI {u v : Nat} (hu : u < 2 ^ 31) (hv : v < 2 ^ 31) : mxI (nI u) (nI v) = nI (max u v) := by
  unfold mxI
  by_cases h : u < v
  · rw [if_pos (nI_lt h hv), Nat.max_eq_right (by omega)]
  · rw [if_neg (nI_nlt (by omega) hu), Nat.max_eq_left (by omega)]
theorem rel2.le {u v : Nat} (h : rel2 u v) : u ≤ 100000 ∧ v ≤ 99999 := by
  rcases h with ⟨rfl, rfl⟩ | ⟨h, rfl⟩ <;> omega
theorem rel2.mx {u v u' v' : Nat} (h : rel2 u v) (h' : rel2 u' v') : rel2 (max u u') (max v v') := by
  unfold rel2 at *
  omega
theorem rel2.lt {u v u' v' : Nat} (h : rel2 u v) (h' : rel2 u' v') : u < u' ↔ v < v' := by
  unfold rel2 at *
  omega
theorem K_hub_in (H : isEnv σ x0 h0 pa va P) (hQ : invP P) {x : Nat → Nat} (hx : isX σ r x) (hb : ∀ t, t < P.1.1 → x t ≤ 100000) (k7 : Nat → Int32 → Int32 → Int32 → vv_S → Option (Int32 × vv_S)) (best : Int32) {least t : Nat} : ∀ (c i n mo : Nat), mo ≤ 100000 → i + c = P.1.1 → c < n → KX1_hub_35 k7 n x0 best (nI least) (nI t) r (nI mo) (nI i) σ = (if nI (lp (fun q m => max m (x q)) c i mo) < nI least then k7 x0 (nI t) (nI (lp (fun q m => max m (x q)) c i mo)) (nI (t + 1)) σ else k7 x0 best (nI least) (nI (t + 1)) σ) := by
  have h8 := ev_8 H
  intro c
  induction c with
  | zero =>
    intro i n mo hm hi hn
    obtain ⟨n, rfl⟩ : ∃ m, n = m + 1 := ⟨n - 1, by omega⟩
    show BKX1_hub_35 k7 (KX1_hub_35 k7 n) x0 best (nI least) (nI t) r (nI mo) (nI i) σ = _
    unfold BKX1_hub_35 KX1_hub_79
    simp only [ev_pa H, ev_o H, ev_tw H, bdS]
    rw [if_pos (nI_le (by omega) (by omega)), nI_add]
    rfl
  | succ c ih =>
    intro i n mo hm hi hn
    obtain ⟨n, rfl⟩ : ∃ m, n = m + 1 := ⟨n - 1, by omega⟩
    have hb1 := hb i (by omega)
    show BKX1_hub_35 k7 (KX1_hub_35 k7 n) x0 best (nI least) (nI t) r (nI mo) (nI i) σ = (if nI (lp (fun q m => max m (x q)) c (i + 1) (max mo (x i))) < nI least then k7 x0 (nI t) (nI (lp (fun q m => max m (x q)) c (i + 1) (max mo (x i)))) (nI (t + 1)) σ else k7 x0 best (nI least) (nI (t + 1)) σ)
    unfold BKX1_hub_35
    simp only [ev_pa H, ev_o H, ev_tw H, hx.rd (show i < 8 by omega), mx_nI (show mo < 2 ^ 31 by omega) (show x i < 2 ^ 31 by omega), nI_add, bdS]
    rw [if_neg (nI_ge (show i < P.1.1 by omega) (by omega))]
    exact ih (i + 1) n _ (by omega) (by omega) (by omega)
theorem J_hub_in {D D' : Nat → Nat → Nat} (d : isD T D D') (hP : isTp T P) (h8 : P.1.1 ≤ 8) (hb : ∀ i j, i < P.1.1 → j < P.1.1 → D i j ≤ 99999) (k18 : Int32 → Int32 → Int32 → tw_T → Option (Int32 × tw_T)) (best : Int32) {least t : Nat} (ht : t < P.1.1) : ∀ (c i n mo : Nat), mo ≤ 99999 → i + c = P.1.1 → c < n → J_hub_32 k18 n best (nI least) (nI t) (nI mo) (nI i) T = (if nI (lp (fun q m => max m (D t q)) c i mo) < nI least then k18 (nI t) (nI (lp (fun q m => max m (D t q)) c i mo)) (nI (t + 1)) T else k18 best (nI least) (nI (t + 1)) T) := by
  intro c
  induction c with
  | zero =>
    intro i n mo hm hi hn
    obtain ⟨n, rfl⟩ : ∃ m, n = m + 1 := ⟨n - 1, by omega⟩
    show B_hub_32 k18 (J_hub_32 k18 n) best (nI least) (nI t) (nI mo) (nI i) T = _
    unfold B_hub_32 J_hub_97
    rw [hP.1, if_pos (nI_le (by omega) (by omega)), nI_add]
    rfl
  | succ c ih =>
    intro i n mo hm hi hn
    obtain ⟨n, rfl⟩ : ∃ m, n = m + 1 := ⟨n - 1, by omega⟩
    have hb1 := hb t i ht (by omega)
    show B_hub_32 k18 (J_hub_32 k18 n) best (nI least) (nI t) (nI mo) (nI i) T = (if nI (lp (fun q m => max m (D t q)) c (i + 1) (max mo (D t i))) < nI least then k18 (nI t) (nI (lp (fun q m => max m (D t q)) c (i + 1) (max mo (D t i)))) (nI (t + 1)) T else k18 best (nI least) (nI (t + 1)) T)
    unfold B_hub_32 J_hub_75
    rw [hP.1, if_neg (nI_ge (show i < P.1.1 by omega) (by omega))]
    simp only [pk_mul, nI_add, (d_rd d (a := t) (b := i) (by omega) (by omega)).1, bdS]
    by_cases e : D t i ≤ mo
    · rw [if_pos (nI_le e (by omega)), Nat.max_eq_left e]
      exact ih (i + 1) n mo hm (by omega) (by omega)
    · rw [if_neg (nI_ge (by omega) (by omega)), Nat.max_eq_right (by omega)]
      exact ih (i + 1) n (D t i) hb1 (by omega) (by omega)
theorem lp_rel {x y : Nat → Nat} {n : Nat} (h : ∀ q, q < n → rel2 (x q) (y q)) : ∀ (c i u v : Nat), i + c ≤ n → rel2 u v → rel2 (lp (fun q m => max m (x q)) c i u) (lp (fun q m => max m (y q)) c i v) := by
  intro c
  induction c with
  | zero => intro i u v _ h1; exact h1
  | succ c ih => intro i u v hi h1; exact ih (i + 1) _ _ (by omega) (h1.mx (h i (by omega)))
theorem hub_loop (hW : wyP P) (hE : ∀ a b, a < P.1.1 → b < P.1.1 → rel2 (bfx (wyE P false 99) P.1.1 a b) (fwx (wyE P false 99) P.1.1 a b)) : ∀ (c i n : Nat) (σ : vv_S) (best : Int32) (u v : Nat), isQ x0 h0 pa va ca P R lo σ T → isD T (fwx (wyE P false 99) P.1.1) (fwx (wyE P true 99) P.1.1) → rel2 u v → i + c = P.1.1 → c < n → ∃ w σ', KX1_hub_7 n x0 best (nI u) (nI i) σ = some (w, σ') ∧ J_hub_18 n best (nI v) (nI i) T = some (w, T) ∧ isEnv σ' x0 h0 pa va P ∧ fa (fun q => q = va) c (8 * c) σ σ' := by
  intro c
  induction c with
  | zero =>
    intro i n σ best u v Q d huv hi hn
    obtain ⟨n, rfl⟩ : ∃ m, n = m + 1 := ⟨n - 1, by omega⟩
    have h8 := ev_8 Q.1
    refine ⟨best, σ, ?_, ?_, Q.1, fa.rf⟩
    · show BKX1_hub_7 (KX1_hub_7 n) x0 best (nI u) (nI i) σ = _
      unfold BKX1_hub_7
      simp only [ev_pa Q.1, ev_o Q.1, ev_tw Q.1, bdS]
      rw [if_pos (nI_le (by omega) (by omega))]
    · show B_hub_18 (J_hub_18 n) best (nI v) (nI i) T = _
      unfold B_hub_18
      rw [Q.tp.1, if_pos (nI_le (by omega) (by omega))]
  | succ c ih =>
    intro i n σ best u v Q d huv hi hn
    obtain ⟨n, rfl⟩ : ∃ m, n = m + 1 := ⟨n - 1, by omega⟩
    have h8 := ev_8 Q.1
    have hu := huv.le
    obtain ⟨σ1, s1, y1, H1, F1, z1⟩ := K_least (lk := false) Q (f := i) (by omega)
    have s1 : KX2_least pa (nI i) (nI 0) σ = some (σ.2.1, σ1) := s1
    have Q1 := Q.k H1 F1
    have e1 := K_hub_in (least := u) (t := i) H1 Q.cx.2 y1 (fun t ht => (hE i t (by omega) ht).le.1) (KX1_hub_7 n) best P.1.1 0 NN 0 (by omega) (by omega) (by unfold NN; omega)
    have e2 := J_hub_in (least := v) d Q.tp h8 (fun a b ha hb => (hE a b ha hb).le.2) (J_hub_18 n) best (t := i) (by omega) P.1.1 0 NN 0 (by omega) (by omega) (by unfold NN; omega)
    have hm := lp_rel (x := bfx (wyE P false 99) P.1.1 i) (y := fwx (wyE P false 99) P.1.1 i) (fun q hq => hE i q (by omega) hq) P.1.1 0 0 0 (by omega) (Or.inr ⟨by omega, rfl⟩)
    have hmu := hm.le
    show ∃ w σ', BKX1_hub_7 (KX1_hub_7 n) x0 best (nI u) (nI i) σ = _ ∧ B_hub_18 (J_hub_18 n) best (nI v) (nI i) T = _ ∧ _
    unfold BKX1_hub_7 B_hub_18
    simp only [ev_pa Q.1, ev_o Q.1, ev_tw Q.1, Q.tp.1, s1, e1, e2, bdS]
    rw [if_neg (nI_ge (show i < P.1.1 by omega) (by omega)), if_neg (nI_ge (show i < P.1.1 by omega) (by omega))]
    generalize lp (fun q m => max m (bfx (wyE P false 99) P.1.1 i q)) P.1.1 0 0 = mk at *
    generalize lp (fun q m => max m (fwx (wyE P false 99) P.1.1 i q)) P.1.1 0 0 = mj at *
    have hc := hm.lt huv
    have fin : ∀ (b : Int32) (u v : Nat), rel2 u v → ∃ w σ', KX1_hub_7 n x0 b (nI u) (nI (i + 1)) σ1 = some (w, σ') ∧ J_hub_18 n b (nI v) (nI (i + 1)) T = some (w, T) ∧ isEnv σ' x0 h0 pa va P ∧ fa (fun q => q = va) (c + 1) (8 * (c + 1)) σ σ' := by
      intro b u v h
      obtain ⟨w, σ2, s2, u2, H2, F2⟩ := ih (i + 1) n σ1 b u v Q1 d h (by omega) (by omega)
      exact ⟨w, σ2, s2, u2, H2, (F1.tr F2 (fun _ _ h => h)).mo (fun _ h => h) (by omega) (by omega)⟩
    by_cases hx : mk < u
    · rw [if_pos (nI_lt hx (by omega)), if_pos (nI_lt (hc.mp hx) (by omega))]
      exact fin _ _ _ hm
    · rw [if_neg (nI_nlt (by omega) (by omega)), if_neg (nI_nlt (by have := (not_congr hc).mp hx; omega) (by omega))]
      exact fin _ _ _ huv
theorem o_hub (Q : isQ x0 h0 pa va ca P R lo σ T) (hW : wyP P) : ans0 va 20 200 σ T (KX1_hub x0 σ) (J_hub T) := by
  obtain ⟨T0, e0, Q0, hz, f0⟩ := Q.z
  have h8 := ev_8 Q0.1
  have h12 := ev_12 Q0.1
  obtain ⟨T1, u1, d1, g1⟩ := J_measures_e Q0.tp Q0.cx.2 hW h8 h12 (m1_99n h12)
  obtain ⟨w, σ1, s1, u2, H1, F1⟩ := hub_loop hW (fun a b ha hb => wy_rel Q0.cx.2 hW h8 h12 ha hb) P.1.1 0 NN σ (-1) 100000 99999 (Q0.j g1.jq) d1 (Or.inl ⟨rfl, rfl⟩) (by omega) (by unfold NN; omega)
  refine ⟨w, σ1, T1, s1, ?_, F1.mo (fun _ h => h) (by omega) (by omega), H1.ov, f0.tr g1.jq⟩
  unfold J_hub
  simp only [e0, bdS, u1, u2]
end WZ
