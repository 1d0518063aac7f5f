theorem st_0 {l : Launch} {G : vv_G} {ad : Nat → Nat} (hH : vv_hy l G ad) : ∀ U, vv_K G U → vk_R "LuckCrates$Reader" 33 "luck" (ad 10) U := fun U hK => hH.2.2.2.2.2.1 ("LuckCrates$Reader", 33, "luck", 10) (List.mem_of_getElem? (i := 0) rfl) U hK
theorem st_1 {l : Launch} {G : vv_G} {ad : Nat → Nat} (hH : vv_hy l G ad) : ∀ U, vv_K G U → vk_R "LuckCrates$Reader" 35 "bad" (ad 11) U := fun U hK => hH.2.2.2.2.2.1 ("LuckCrates$Reader", 35, "bad", 11) (List.mem_of_getElem? (i := 1) rfl) U hK
theorem st_2 {l : Launch} {G : vv_G} {ad : Nat → Nat} (hH : vv_hy l G ad) : ∀ U, vv_K G U → vk_R "LuckCrates$Reader" 37 "stake" (ad 12) U := fun U hK => hH.2.2.2.2.2.1 ("LuckCrates$Reader", 37, "stake", 12) (List.mem_of_getElem? (i := 2) rfl) U hK
theorem st_3 {l : Launch} {G : vv_G} {ad : Nat → Nat} (hH : vv_hy l G ad) : ∀ U, vv_K G U → vk_R "LuckCrates$Reader" 39 "makes" (ad 13) U := fun U hK => hH.2.2.2.2.2.1 ("LuckCrates$Reader", 39, "makes", 13) (List.mem_of_getElem? (i := 3) rfl) U hK
theorem st_4 {l : Launch} {G : vv_G} {ad : Nat → Nat} (hH : vv_hy l G ad) : ∀ U, vv_K G U → vk_R "LuckCrates$Reader" 41 "day" (ad 14) U := fun U hK => hH.2.2.2.2.2.1 ("LuckCrates$Reader", 41, "day", 14) (List.mem_of_getElem? (i := 4) rfl) U hK
theorem st_5 {l : Launch} {G : vv_G} {ad : Nat → Nat} (hH : vv_hy l G ad) : ∀ U, vv_K G U → vk_R "LuckCrates$Reader" 43 "crates" (ad 15) U := fun U hK => hH.2.2.2.2.2.1 ("LuckCrates$Reader", 43, "crates", 15) (List.mem_of_getElem? (i := 5) rfl) U hK
theorem st_6 {l : Launch} {G : vv_G} {ad : Nat → Nat} (hH : vv_hy l G ad) : ∀ U, vv_K G U → vk_R "LuckCrates$Reader" 91 ";()+-*/<=" (ad 16) U := fun U hK => hH.2.2.2.2.2.1 ("LuckCrates$Reader", 91, ";()+-*/<=", 16) (List.mem_of_getElem? (i := 6) rfl) U hK
theorem st_7 {l : Launch} {G : vv_G} {ad : Nat → Nat} (hH : vv_hy l G ad) : ∀ U, vv_K G U → vk_R "LuckCrates$Reader" 245 "town" (ad 17) U := fun U hK => hH.2.2.2.2.2.1 ("LuckCrates$Reader", 245, "town", 17) (List.mem_of_getElem? (i := 7) rfl) U hK
theorem st_8 {l : Launch} {G : vv_G} {ad : Nat → Nat} (hH : vv_hy l G ad) : ∀ U, vv_K G U → vk_R "LuckCrates$Reader" 248 "way" (ad 18) U := fun U hK => hH.2.2.2.2.2.1 ("LuckCrates$Reader", 248, "way", 18) (List.mem_of_getElem? (i := 8) rfl) U hK
theorem st_9 {l : Launch} {G : vv_G} {ad : Nat → Nat} (hH : vv_hy l G ad) : ∀ U, vv_K G U → vk_R "LuckCrates$Reader" 252 "crate" (ad 19) U := fun U hK => hH.2.2.2.2.2.1 ("LuckCrates$Reader", 252, "crate", 19) (List.mem_of_getElem? (i := 9) rfl) U hK
theorem st_10 {l : Launch} {G : vv_G} {ad : Nat → Nat} (hH : vv_hy l G ad) : ∀ U, vv_K G U → vk_R "LuckCrates$Reader" 254 "ballast" (ad 20) U := fun U hK => hH.2.2.2.2.2.1 ("LuckCrates$Reader", 254, "ballast", 20) (List.mem_of_getElem? (i := 10) rfl) U hK
theorem st_11 {l : Launch} {G : vv_G} {ad : Nat → Nat} (hH : vv_hy l G ad) : ∀ U, vv_K G U → vk_R "LuckCrates$Reader" 244 "cat" (ad 21) U := fun U hK => hH.2.2.2.2.2.1 ("LuckCrates$Reader", 244, "cat", 21) (List.mem_of_getElem? (i := 11) rfl) U hK
theorem st_12 {l : Launch} {G : vv_G} {ad : Nat → Nat} (hH : vv_hy l G ad) : ∀ U, vv_K G U → vk_R "LuckCrates$Reader" 259 "odds" (ad 22) U := fun U hK => hH.2.2.2.2.2.1 ("LuckCrates$Reader", 259, "odds", 22) (List.mem_of_getElem? (i := 12) rfl) U hK
theorem st_13 {l : Launch} {G : vv_G} {ad : Nat → Nat} (hH : vv_hy l G ad) : ∀ U, vv_K G U → vk_R "LuckCrates$Reader" 172 "not" (ad 23) U := fun U hK => hH.2.2.2.2.2.1 ("LuckCrates$Reader", 172, "not", 23) (List.mem_of_getElem? (i := 13) rfl) U hK
theorem st_14 {l : Launch} {G : vv_G} {ad : Nat → Nat} (hH : vv_hy l G ad) : ∀ U, vv_K G U → vk_R "LuckCrates$Reader" 182 "and" (ad 24) U := fun U hK => hH.2.2.2.2.2.1 ("LuckCrates$Reader", 182, "and", 24) (List.mem_of_getElem? (i := 14) rfl) U hK
theorem st_15 {l : Launch} {G : vv_G} {ad : Nat → Nat} (hH : vv_hy l G ad) : ∀ U, vv_K G U → vk_R "LuckCrates$Reader" 189 "or" (ad 25) U := fun U hK => hH.2.2.2.2.2.1 ("LuckCrates$Reader", 189, "or", 25) (List.mem_of_getElem? (i := 15) rfl) U hK
theorem vv_ldsw {l : Launch} {G : vv_G} {M : vv_M} {d pc : Nat} {lv : List (Nat × Value)} {rest : List Value} {σ : vv_S} {E : vv_X} {ix q : Nat} {tx : String} (hz : ∀ U, vv_K G U → vk_R M.1.cls ix tx q U) (dg : decode M.2.1 pc = .ok (.ldc_w ix, 3)) (k9 : vv_V l G M d (pc + 3) lv (.ref q :: rest) σ E) : vv_V l G M d pc lv rest σ E := by
  refine ⟨k9.1, fun p e9 R s m args below meth c H locs ls σ0 C0 h0 hR hS hl => ?_⟩
  obtain ⟨hx, hb, hr, hlk9, hml, ho, hnme, hts, hK, htab, hRm, hz0⟩ := id C0
  have kk := k9.2 p e9 R s m args below meth c H locs ls σ0 C0 h0 hR hS hl
  intro T hT X
  obtain ⟨t, a1, b1⟩ := kk T hT X
  have hZ := hz s hK
  obtain ⟨k, cf, i, a', hk, hcf, hcp, -, hr9, hev'⟩ := Cond.stringRef_spec (args := #[]) ho hZ.1
  have hev : (Term.string M.1.cls ix).eval #[] s none [] s = some (.ref q) := hZ.2
  cases hev.symm.trans hev'
  obtain ⟨k', hk', he⟩ := X.warmed.alike.2.2 _ _ hk
  have hr' : k'.resolved[ix]? = some (some (.string q)) := by
    rcases X.warmed.entry hk hk' ix with h | ⟨h, -⟩
    · rw [h]; exact hr9
    · rw [hr9] at h; cases h
  have hdg : decode c.code pc = .ok (.ldc_w ix, 3) := by rw [hb]; exact dg
  refine ⟨t, ?_, b1⟩
  jvm_step X.here [hx, hdg, ldc_w.wp_string (e := e9) (s := T) (f := F0 m pc ls rest) X.here.top hk' (by rw [he]; exact hcf) hcp hr']
  exact a1
