/-! the plain law: what may have been opened -/
set_option maxRecDepth 100000
/-- what launch has laid below B: an empty array, small Integers -/
def adK (h0 : Nat → Option vv_E) (ad : Nat → Nat) (B : Nat) : Prop := ad 0 < B ∧ (∃ b gg, h0 (ad 0) = some (obE b 0 gg)) ∧ ∃ (b : Bool) (gg : Nat → Option Nat), h0 (ad 2) = some (b, .inl (.object "java/lang/Integer", 256, .inr (.inr (.inr (.inr gg))))) ∧ ∀ v, v ≤ 127 → ∃ q, gg (v + 128) = some q ∧ q < B ∧ isIn h0 q (nI v)
theorem dv_10 : ∀ p, p < 128 → nI p / nI 10 = nI (p / 10) := by decide +kernel
section OP
variable {σ : vv_S} {T : tw_T} {x0 pa va ca tc lu a B l : Nat} {h0 : Nat → Option vv_E} {P : pvT} {R R0 : Nat → Int32} {lo : Int32} {f : Nat → Int32} {x1 : Int32} {d : Nat} {S : seT} {ad : Nat → Nat}
theorem wQ.al {σ' : vv_S} (W : wQ B x0 h0 pa va ca tc lu P R lo S σ T) (hk : ∀ q, q < B → σ'.1 q = σ.1 q) (hs : B ≤ σ'.2.1) : wQ B x0 h0 pa va ca tc lu P R lo S σ' T := by
  obtain ⟨Q, U, ⟨R2, lo2, C2⟩, ⟨f, L2⟩, hab, ⟨b1, b2, b3, b4, b5, b6, b7⟩, ⟨sl, K1, K2⟩, J, hS⟩ := W
  have e := hk x0 b3
  have H : isEnv σ' x0 h0 pa va P := by
    obtain ⟨h1, h2, h3, h4, h5, h6, h7⟩ := Q.1
    refine ⟨fun q e1 he => ?_, h2, (isO_eq e).trans h3, (gR_eq e).trans h4, (gR_eq e).trans h5, h6, by rw [hk va b2]; exact h7⟩
    by_cases hq : B ≤ q
    · rw [b7 q hq] at he; cases he
    · rw [hk q (by omega)]; exact h1 q e1 he
  exact ⟨⟨H, Q.co.ke fun q h1 h2 => hk q (by omega), (gR_eq e).trans Q.gc, fun q hq => b7 q (by omega), ⟨by omega, by omega, by omega⟩, Q.cx, Q.tp, Q.rw, Q.inv⟩, U.k e, ⟨R2, lo2, C2.ke fun q h1 h2 => hk q (by omega)⟩, ⟨f, (hk lu b6).trans L2⟩, hab, ⟨hs, b2, b3, b4, b5, b6, b7⟩, ⟨sl, (gR_eq e).trans K1, by rw [cut_e hk]; exact K2⟩, J, hS⟩
theorem K_int (hA : adK h0 ad B) (hs : sub h0 σ.1) {v : Nat} (hv : v ≤ 127) : ∃ q, KJ14_valueOf ad (nI v) σ = some q ∧ q < B ∧ isIn h0 q (nI v) ∧ anyK σ "java/lang/Object" q = true := by
  obtain ⟨-, -, b, gg, h1, h2⟩ := hA
  obtain ⟨q, q1, q2, q3⟩ := h2 v hv
  obtain ⟨fl, q4⟩ := id q3
  refine ⟨q, ?_, q2, q3, ?_⟩
  · have e : aQ σ (ad 2) (nI (v + 128)) = some q := by
      unfold aQ
      rw [hs _ _ h1]
      show (if (FieldType.object "java/lang/Integer").isReference = true ∧ ¬ (nI (v + 128) < 0 ∨ 256 ≤ (nI (v + 128)).toNatClampNeg) then gg (nI (v + 128)).toNatClampNeg else none) = _
      rw [if_pos ⟨rfl, nI_in (by omega) (by omega)⟩, nI_clamp (by omega), q1]
    unfold KJ14_valueOf
    rw [if_neg (by
      intro h
      have h2 : (-128 : Int32).toInt = -128 := by decide
      rw [ti_lt, ti_n (by omega), h2] at h
      omega), if_neg (nI_nlt hv (by omega)), nI_add, e]
    rfl
  · unfold anyK
    rw [hs _ _ q4]
    rfl
/-- both, a part tried: n are in the list, w is the first -/
def opI (B : Nat) (x0 : Nat) (h0 : Nat → Option vv_E) (pa va ca tc lu : Nat) (P : pvT) (R : Nat → Int32) (lo : Int32) (S : seT) (ad : Nat → Nat) (l m : Nat) (w : Int32) (n e : Nat) (g : Nat → Nat) (σ : vv_S) (T : tw_T) : Prop := wQ B x0 h0 pa va ca tc lu P R lo S σ T ∧ isMl σ ad l e n g ∧ (B ≤ l ∧ l < σ.2.1 ∧ e < σ.2.1) ∧ (e = ad 0 ∨ B ≤ e) ∧ (∀ i, i < n → g i < B) ∧ (n = 0 ∧ w = -1 ∨ 0 < n ∧ ∃ v, v < 128 ∧ w = nI v ∧ isIn h0 (g 0) (nI v)) ∧ n ≤ m
/-- how much was made -/
def grw (c : Nat) (B : Nat) (D : Nat → Prop) (σ σ' : vv_S) : Prop := (σ.2.1 ≤ σ'.2.1 ∧ σ'.2.1 ≤ σ.2.1 + c ∧ σ.2.2 ≤ σ'.2.2 ∧ σ'.2.2 ≤ σ.2.2 + 220 * c) ∧ ∀ q, q < B → ¬ D q → σ'.1 q = σ.1 q
theorem grw.tr {c c' : Nat} {D : Nat → Prop} {σ σ1 σ2 : vv_S} (h1 : grw c B D σ σ1) (h2 : grw c' B D σ1 σ2) : grw (c + c') B D σ σ2 := ⟨⟨by have := h1.1; have := h2.1; omega, by have := h1.1; have := h2.1; omega, by have := h1.1; have := h2.1; omega, by have := h1.1; have := h2.1; omega⟩, fun q hq hD => (h2.2 q hq hD).trans (h1.2 q hq hD)⟩
theorem op_step (hA : adK h0 ad B) {k m : Nat} (hk : k < P.1.2.2) (hd : d < 10) (hm : m ≤ 99) {w : Int32} {n e : Nat} {g : Nat → Nat} (I : opI B x0 h0 pa va ca tc lu P R lo S ad l m w n e g σ T) (hz : T.1 0 = 0) (k10 : Nat → Nat → Int32 → vv_S → Option (Nat × vv_S)) (x1 : Int32) (nK nJ : Nat) : ∃ σ' T' w' n' e' g', KX1_openings_23 (KX_fo 80) ad k10 (nK + 1) x0 l (nI k) (nI d) σ = KX1_openings_23 (KX_fo 80) ad k10 nK x0 l (nI k) (nI (d + 1)) σ' ∧ J_opened_43 (nJ + 1) x1 (nI n) w (nI (10 * k + d)) T = J_opened_43 nJ x1 (nI n') w' (nI (10 * k + (d + 1))) T' ∧ opI B x0 h0 pa va ca tc lu P R lo S ad l (m + 1) w' n' e' g' σ' T' ∧ grw 1 B (coX tc va lu) σ σ' ∧ isT8 T T' := by
  obtain ⟨W, M, hl, he, hg, hw, hn⟩ := I
  obtain ⟨Q, U, -, -, -, hB, -⟩ := id W
  have h10 := ev_10 Q.1
  have e1 : dvI (nI (10 * k + d)) (nI 10) = some (nI k) := by rw [dv_n (by omega) (by omega), dv_10 _ (by omega), show (10 * k + d) / 10 = k by omega]
  have e2 : rmI (nI (10 * k + d)) (nI 10) = some (nI d) := by rw [rm_n (by omega) (by omega) (by omega), show (10 * k + d) % 10 = d by omega]
  have hcnt : ¬ nI 10 * T.1 3 ≤ nI (10 * k + d) := by rw [Q.tp.2.2.1, pk_mul]; exact nI_ge (by omega) (by omega)
  have z0 : ∀ T : tw_T, J_isGuess_32 (nI 0) T = some (nI 0, T) := fun T => rfl
  have z1 : ∀ T : tw_T, J_isGuess_32 (nI 1) T = some (nI 1, T) := fun T => rfl
  show ∃ σ' T' w' n' e' g', BKX1_openings_23 (KX_fo 80) ad k10 (KX1_openings_23 (KX_fo 80) ad k10 nK) x0 l (nI k) (nI d) σ = _ ∧ B_opened_43 (J_opened_43 nJ) x1 (nI n) w (nI (10 * k + d)) T = _ ∧ _
  unfold BKX1_openings_23 KX1_openings_65 B_opened_43 J_opened_78 J_isGuess J_isGuess_31
  rw [if_neg (nI_ge hd (by omega)), if_neg hcnt]
  simp only [Q.gc, co_o Q.co, K_lies Q.co (show k < 10 by omega), J_lies_e Q.rw (by omega) Q.tp.2.2.1 (show k < P.1.2.2 by omega) h10, e1, e2, nI_add, bdS]
  rw [show 10 * k + d + 1 = 10 * k + (d + 1) by omega]
  by_cases hL : liesR R k
  · rw [if_pos hL, if_neg s1_ne, if_neg s1_ne]
    obtain ⟨t, ht, et⟩ := inv_town_ix Q.inv (show k < 10 by omega) hL.1
    obtain ⟨b, σ1, T1, f1, s1, u1, -, W1, fr1, g1⟩ := so_w (x1 := nI k) (d := d) W (Or.inr ⟨k, t, by omega, ht, rfl, et, hL.2⟩) (by omega)
    have ne : ∀ q, B ≤ q → ¬ coX tc va lu q := fun q hq h => by
      rcases h with (h | h) | h
      · have h : tc ≤ q ∧ q < tc + 10 := h
        omega
      · omega
      · omega
    have e0 : ad 0 < B := hA.1
    obtain ⟨b0, gg0, h00⟩ := hA.2.1
    have hle : σ1.1 e = σ.1 e := by
      rcases he with h | h
      · rw [h, W1.1.1.1 _ _ h00, Q.1.1 _ _ h00]
      · exact fr1.2 e (ne e h)
    have M1 : isMl σ1 ad l e n g := M.ke (fr1.2 l (ne l hl.1)) hle fun i hi h => by
      by_cases hx : coX tc va lu (g i)
      · obtain ⟨mc, b, cap, gg, k1, k2, k3, k4, k5, k6, k7, k8⟩ := M
        unfold anyK at h ⊢
        obtain ⟨R2, lo2, C2⟩ := W1.2.2.1
        obtain ⟨f2, L2⟩ := W1.2.2.2.1
        have hkd := kd_X W1.1.1 C2 L2 hx
        rcases hkd with ⟨b, fs, h⟩ | ⟨b, n, f, h, -⟩
        · rw [h]; rfl
        · rw [h]; rfl
      · rw [any_k (fr1.2 _ hx)]; exact h
    have G1 : grw 0 B (coX tc va lu) σ σ1 := ⟨by rw [fr1.1]; omega, fun q _ hD => fr1.2 q hD⟩
    simp only [ev_x Q.1, s1, u1, bdS]
    cases b with
    | false =>
      simp only [show bI false = nI 0 from rfl, if_pos nI_0, z0, bdS]
      exact ⟨σ1, T1, w, n, e, g, rfl, rfl, ⟨W1, M1, by rw [fr1.1]; exact hl, he, hg, hw, by omega⟩, ⟨⟨by have := G1.1; omega, by have := G1.1; omega, by have := G1.1; omega, by have := G1.1; omega⟩, G1.2⟩, g1⟩
    | true =>
      simp only [show bI true = nI 1 from rfl, if_neg s1_ne, z1, pk_mul, nI_add, bdS]
      obtain ⟨q, q1, q2, q3, q4⟩ := K_int hA W1.1.1.1 (v := 10 * k + d) (by omega)
      obtain ⟨σ2, e', s2, M2, he2, hl2, cnt, fr2⟩ := K_add M1 (v := q) (by omega) ⟨by rw [fr1.1]; exact hl.2.1, by rw [fr1.1]; exact hl.2.2, by rw [fr1.1]; omega⟩ ⟨by rw [fr1.1]; omega, q4⟩ (fun i hi => by rw [fr1.1]; have := hg i hi; omega)
      rw [fr1.1] at he2 cnt fr2
      have hk2 : ∀ q, q < B → σ2.1 q = σ1.1 q := fun q hq => fr2 q (by omega) (by omega) (by
        rcases he with h | h
        · exact Or.inr h
        · exact Or.inl (by omega))
      have W2 := W1.al hk2 (by omega)
      have il : isO σ1 l 11 = some () := li_o (M1.li (by omega))
      simp only [q1, il, s2, bdS]
      have hwv : (if w = -1 then J_opened_43 nJ x1 (nI (n + 1)) (nI (10 * k + d)) (nI (10 * k + (d + 1))) T1 else J_opened_43 nJ x1 (nI (n + 1)) w (nI (10 * k + (d + 1))) T1) = J_opened_43 nJ x1 (nI (n + 1)) (if w = -1 then nI (10 * k + d) else w) (nI (10 * k + (d + 1))) T1 := by split <;> rfl
      rw [hwv]
      refine ⟨σ2, T1, _, n + 1, e', upN g n q, rfl, rfl, ⟨W2, M2, ⟨hl.1, by omega, hl2⟩, ?_, fun i hi => ?_, ?_, by omega⟩, ⟨⟨by omega, by omega, by omega, by omega⟩, fun q hq hD => (hk2 q hq).trans (fr1.2 q hD)⟩, g1⟩
      · rcases he2 with ⟨h1, h2⟩ | h
        · rw [h1]; exact he
        · exact Or.inr (by omega)
      · unfold upN
        by_cases e : i = n
        · rw [if_pos e]; exact q2
        · rw [if_neg e]; exact hg i (by omega)
      · refine Or.inr ⟨by omega, ?_⟩
        unfold upN
        rcases hw with ⟨h1, h2⟩ | ⟨h1, v, v1, v2, v3⟩
        · rw [if_pos h2, if_pos h1.symm]
          exact ⟨10 * k + d, by omega, rfl, q3⟩
        · rw [if_neg (by rw [v2]; exact nI_m1 (by omega)), if_neg (by omega)]
          exact ⟨v, v1, v2, v3⟩
  · rw [if_neg hL, if_pos nI_0, if_pos nI_0]
    simp only [z0, bdS]
    rw [if_pos nI_0]
    exact ⟨σ, T, w, n, e, g, rfl, rfl, ⟨W, M, hl, he, hg, hw, by omega⟩, ⟨by omega, fun _ _ _ => rfl⟩, isT8.rf⟩
end OP
