/-! the plain law: chains -/
set_option maxRecDepth 100000
/-- where a Chain's parts lie: itself, its list, what lies behind it, its builder, what lies behind that -/
abbrev chT : Type := Nat × Nat × Nat × Nat × Nat
def chN (z : chT) (q : Nat) : Prop := q ≠ z.1 ∧ q ≠ z.2.1 ∧ q ≠ z.2.2.1 ∧ q ≠ z.2.2.2.1 ∧ q ≠ z.2.2.2.2
/-- room for the lists, and what they have cost -/
def chR (k lc bc lA bA : Nat) : Prop := (lc = 10 ∧ lA = 10 ∧ k ≤ 10 ∨ 10 ≤ lc ∧ lA ≤ 4 * lc ∧ 2 * lc ≤ 3 * k) ∧ (bc = 16 ∧ bA = 16 ∨ 16 ≤ bc ∧ bA ≤ 2 * bc ∧ bc ≤ 2 * (k - 1)) ∧ k ≤ lc ∧ k - 1 ≤ bc ∧ lc ≤ 1100 ∧ bc ≤ 2000
/-- a Chain of k forms; all of it from s on -/
def chS (σ : vv_S) (ad : Nat → Nat) (s : Nat) (z : chT) (k D lc bc : Nat) (g : Nat → Nat) (evs : Nat → (Nat → Int32) → Int32) (sg : Nat → Nat) : Prop :=
  σ.1 z.1 = some (true, .inr (7, [.ref z.2.1, .ref z.2.2.2.1])) ∧ isMc σ ad z.2.1 z.2.2.1 lc k g ∧ isSb σ.1 z.2.2.2.1 z.2.2.2.2 bc (k - 1) sg ∧ (s ≤ z.1 ∧ s ≤ z.2.1 ∧ s ≤ z.2.2.1 ∧ s ≤ z.2.2.2.1 ∧ s ≤ z.2.2.2.2) ∧ (z.1 < σ.2.1 ∧ z.2.1 < σ.2.1 ∧ z.2.2.1 < σ.2.1 ∧ z.2.2.2.1 < σ.2.1 ∧ z.2.2.2.2 < σ.2.1) ∧ (∀ i, i < k → ∃ si ei, s ≤ si ∧ ei ≤ σ.2.1 ∧ isFr σ.1 si ei (g i) D (evs i) ∧ sx (evs i) ∧ ∀ q, si ≤ q → q < ei → chN z q) ∧ (∀ i, i + 1 < k → sgn (sg i)) ∧ 1 ≤ k
section CH
variable {σ σ' : vv_S} {ad : Nat → Nat} {s k D lc bc : Nat} {z : chT} {g : Nat → Nat} {evs : Nat → (Nat → Int32) → Int32} {sg : Nat → Nat}
theorem chS.mo (H : chS σ ad s z k D lc bc g evs sg) (hk : ∀ q, s ≤ q → q < σ.2.1 → σ'.1 q = σ.1 q) (hz : σ.2.1 ≤ σ'.2.1) : chS σ' ad s z k D lc bc g evs sg := by
  obtain ⟨h1, h2, h3, h4, h5, h6, h7, h8⟩ := H
  refine ⟨(hk _ h4.1 h5.1).trans h1, h2.ke (hk _ h4.2.1 h5.2.1) (hk _ h4.2.2.1 h5.2.2.1) (fun i hi ha => ?_), h3.up (hk _ h4.2.2.2.1 h5.2.2.2.1) (hk _ h4.2.2.2.2 h5.2.2.2.2), h4, by omega, fun i hi => ?_, h7, h8⟩
  · obtain ⟨si, ei, a1, a2, a3, -⟩ := h6 i hi
    have := a3.1
    rw [any_k (hk _ (by omega) (by omega))]
    exact ha
  · obtain ⟨si, ei, a1, a2, a3, a4, a5⟩ := h6 i hi
    exact ⟨si, ei, a1, by omega, a3.mo (Nat.le_refl _) (Nat.le_refl _) (fun q q1 q2 => hk q (by omega) (by omega)) (Nat.le_refl _), a4, a5⟩
/-- it begins with one form -/
theorem K_ch0 {c f0 s0 e0 : Nat} {ev : (Nat → Int32) → Int32} (hE : (∃ b gg, σ.1 (ad 0) = some (obE b 0 gg)) ∧ ad 0 < σ.2.1 ∧ ad 1 < σ.2.1) (hc : σ.1 c = some (true, .inr (7, [.null, .null]))) (hs : s ≤ c ∧ c < s0 ∧ e0 ≤ σ.2.1) (hf : isFr σ.1 s0 e0 f0 D ev) (hsx : sx ev) : ∃ σ' z lc bc g evs sg, KX8_init ad c f0 σ = some σ' ∧ chS σ' ad s z 1 D lc bc g evs sg ∧ z.1 = c ∧ chR 1 lc bc 10 16 ∧ (evs 0 = ev) ∧ σ'.2 = (σ.2.1 + 4, σ.2.2 + 33) ∧ ∀ q, q < σ.2.1 → q ≠ c → σ'.1 q = σ.1 q := by
  obtain ⟨⟨b, gg, hE0⟩, hE1, hE2⟩ := hE
  have hfr := hf.1
  have hcl : c < σ.2.1 := by omega
  have hne0 : ad 0 ≠ c := fun w => by rw [w, hc] at hE0; have h := congrArg Prod.snd (Option.some.inj hE0); cases h
  -- the list
  obtain ⟨σ1, hσ1⟩ : ∃ τ : vv_S, τ = nwO σ 11 [.int 0, .null, .int 0] 3 := ⟨_, rfl⟩
  have n1 : ∀ q, q < σ.2.1 → σ1.1 q = σ.1 q := fun q hq => by rw [hσ1]; exact up_n (by omega)
  have n2 : σ1.2 = (σ.2.1 + 1, σ.2.2 + 3) := by rw [hσ1]; rfl
  obtain ⟨σ2, s2, M2, f2⟩ := K_lnew (σ := σ1) (l := σ.2.1) (ad := ad) (g := fun _ => f0) ⟨_, by rw [hσ1]; exact up_s, rfl⟩ ⟨b, gg, (n1 _ hE1).trans hE0⟩
  have o2 : ∀ q, q < σ.2.1 → σ2.1 q = σ.1 q := fun q hq => (f2.2 q (by omega)).trans (n1 q hq)
  have z2 : σ2.2 = (σ.2.1 + 1, σ.2.2 + 3) := f2.1.trans n2
  obtain ⟨σ3, hσ3⟩ : ∃ τ : vv_S, τ = (vv_up σ2.1 c (true, .inr (7, [.ref σ.2.1, .null])), σ2.2) := ⟨_, rfl⟩
  have s3 : pF σ2 c 7 0 (.ref σ.2.1) = some σ3 := by rw [hσ3]; unfold pF; rw [o2 c hcl, hc]; rfl
  have c3 : σ3.1 c = some (true, .inr (7, [.ref σ.2.1, .null])) := by rw [hσ3]; exact up_s
  have k3 : ∀ q, q ≠ c → σ3.1 q = σ2.1 q := fun q hq => by rw [hσ3]; exact up_n hq
  have z3 : σ3.2 = (σ.2.1 + 1, σ.2.2 + 3) := by rw [hσ3]; exact z2
  have N3 : σ3.2.1 = σ.2.1 + 1 := by rw [z3]
  -- the builder
  obtain ⟨σ4, hσ4⟩ : ∃ τ : vv_S, τ = nwO σ3 13 [.null, .int 0, .int 0, .int 0] 4 := ⟨_, rfl⟩
  have n4 : ∀ q, q < σ3.2.1 → σ4.1 q = σ3.1 q := fun q hq => by rw [hσ4]; exact up_n (by omega)
  have z4 : σ4.2 = (σ.2.1 + 2, σ.2.2 + 7) := by rw [hσ4]; show (σ3.2.1 + 1, σ3.2.2 + 4) = _; rw [z3]
  have N4 : σ4.2.1 = σ.2.1 + 2 := by rw [z4]
  obtain ⟨σ5, s5, S5, z5, k5⟩ := K_sbi (σ := σ4) (sb := σ3.2.1) (sg := fun _ => 38) (by rw [hσ4]; exact up_s) (by omega)
  have N5 : σ5.2 = (σ.2.1 + 3, σ.2.2 + 23) := by rw [z5, z4]
  have N5' : σ5.2.1 = σ.2.1 + 3 := by rw [N5]
  have c5 : σ5.1 c = some (true, .inr (7, [.ref σ.2.1, .null])) := by rw [k5 c (by omega) (by omega), n4 c (by omega), c3]
  obtain ⟨σ6, hσ6⟩ : ∃ τ : vv_S, τ = (vv_up σ5.1 c (true, .inr (7, [.ref σ.2.1, .ref σ3.2.1])), σ5.2) := ⟨_, rfl⟩
  have s6 : pF σ5 c 7 1 (.ref σ3.2.1) = some σ6 := by rw [hσ6]; unfold pF; rw [c5]; rfl
  have c6 : σ6.1 c = some (true, .inr (7, [.ref σ.2.1, .ref σ3.2.1])) := by rw [hσ6]; exact up_s
  have k6 : ∀ q, q ≠ c → σ6.1 q = σ5.1 q := fun q hq => by rw [hσ6]; exact up_n hq
  have z6 : σ6.2 = (σ.2.1 + 3, σ.2.2 + 23) := by rw [hσ6]; exact N5
  have N6 : σ6.2.1 = σ.2.1 + 3 := by rw [z6]
  have o6 : ∀ q, q < σ.2.1 + 1 → q ≠ c → σ6.1 q = σ2.1 q := fun q h1 h2 => by rw [k6 q h2, k5 q (by omega) (by omega), n4 q (by omega), k3 q h2]
  have M6 : isMc σ6 ad σ.2.1 (ad 0) 0 0 (fun _ => f0) := M2.ke (o6 _ (by omega) (by omega)) (o6 _ (by omega) hne0) fun i hi => by omega
  have hfc : f0 ≠ c := by omega
  have hfk : σ6.1 f0 = σ.1 f0 := (o6 f0 (by omega) hfc).trans (o2 f0 (by omega))
  obtain ⟨σ7, e', cap', s7, M7, D7, fr7⟩ := K_addc (v := f0) M6 (by omega) ⟨by omega, by omega, by omega, by omega⟩ ⟨by omega, hf.any hfk⟩ (fun i hi => by omega)
  have hcn : capN ad (ad 0) 0 = 10 := by unfold capN; rw [if_pos rfl]
  rw [hcn] at D7
  obtain ⟨-, rfl, rfl, z7⟩ : 0 = 0 ∧ e' = σ6.2.1 ∧ cap' = 10 ∧ σ7.2 = (σ6.2.1 + 1, σ6.2.2 + 10) := by
    rcases D7 with ⟨h, -⟩ | h
    · omega
    · exact h
  have k7 : ∀ q, q < σ6.2.1 → q ≠ σ.2.1 → σ7.1 q = σ6.1 q := fun q h1 h2 => fr7 q h1 h2 (Or.inr rfl)
  have c7 : σ7.1 c = some (true, .inr (7, [.ref σ.2.1, .ref σ3.2.1])) := (k7 c (by omega) (by omega)).trans c6
  have N7 : σ7.2.1 = σ.2.1 + 4 := by rw [z7, N6]
  have o7 : ∀ q, q < σ.2.1 → q ≠ c → σ7.1 q = σ.1 q := fun q h1 h2 => by rw [k7 q (by omega) (by omega), o6 q (by omega) h2, o2 q h1]
  have g0 : gR σ6 c 7 0 = some σ.2.1 := by unfold gR gV; rw [c6]; rfl
  refine ⟨σ7, (c, σ.2.1, σ6.2.1, σ3.2.1, σ4.2.1), 10, 16, upN (fun _ => f0) 0 f0, fun _ => ev, fun _ => 38, ?_, ⟨c7, M7, S5.up ?_ ?_, ⟨hs.1, ?_, ?_, ?_, ?_⟩, ⟨?_, ?_, ?_, ?_, ?_⟩, fun i hi => ⟨s0, e0, by omega, by omega, ?_, hsx, fun q q1 q2 => ⟨?_, ?_, ?_, ?_, ?_⟩⟩, fun i hi => by omega, Nat.le_refl _⟩, rfl, ⟨Or.inl ⟨rfl, rfl, by omega⟩, Or.inl ⟨rfl, rfl⟩, by omega, by omega, by omega, by omega⟩, rfl, by rw [z7, z6], o7⟩
  · unfold KX8_init
    rw [← hσ1]
    simp only [bdS, s2, s3]
    rw [← hσ4]
    simp only [s5, s6, g0, li_o M6.li, s7, bdS]
  · exact (k7 _ (by omega) (by omega)).trans (k6 _ (by omega))
  · exact (k7 _ (by omega) (by omega)).trans (k6 _ (by omega))
  all_goals dsimp only
  all_goals first | omega | skip
  · have e : upN (fun _ => f0) 0 f0 i = f0 := by unfold upN; split <;> rfl
    rw [e]
    exact hf.mo (Nat.le_refl _) (Nat.le_refl _) (fun q q1 q2 => o7 q (by omega) (by omega)) (Nat.le_refl _)
end CH
