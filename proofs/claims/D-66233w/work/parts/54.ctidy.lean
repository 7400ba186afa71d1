/-! CONTRACTS of ApplyFree$Executor: tidy -/
abbrev xe_A : Type := Nat → Nat × List ay_Row
def xe_1 (A : xe_A) (t : Nat) : Nat := (A t).2.length * (A t).1
def xe_sz (A : xe_A) (l : List Nat) : Nat := (l.map (xe_1 A)).sum
theorem xe_sz_nil {A : xe_A} : xe_sz A [] = 0 := rfl
theorem xe_sz_cons {A : xe_A} {t : Nat} {l : List Nat} : xe_sz A (t :: l) = xe_1 A t + xe_sz A l := by unfold xe_sz; rw [List.map_cons, List.sum_cons]
theorem xe_sz_app {A : xe_A} {a b : List Nat} : xe_sz A (a ++ b) = xe_sz A a + xe_sz A b := by unfold xe_sz; rw [List.map_append, List.sum_append]
/-- the rows of steps, one behind the other from p on -/
def xe_L (M : wd_M) (A : xe_A) : Nat → List Nat → Prop
  | _, [] => True
  | p, t :: l => xe_B M t p (A t).1 (A t).2 ∧ xe_L M A (p + xe_1 A t) l
theorem xe_L_app {M : wd_M} {A : xe_A} : ∀ {a b : List Nat} {p : Nat}, xe_L M A p (a ++ b) ↔ xe_L M A p a ∧ xe_L M A (p + xe_sz A a) b
  | [], b, p => by rw [xe_sz_nil]; exact ⟨fun h => ⟨trivial, h⟩, fun h => h.2⟩
  | t :: a, b, p => by
    rw [xe_sz_cons, ← Nat.add_assoc]
    show (_ ∧ xe_L M A _ (a ++ b)) ↔ (_ ∧ xe_L M A _ a) ∧ _
    rw [xe_L_app, and_assoc]
theorem xe_L_at {M : wd_M} {A : xe_A} {t : Nat} : ∀ {l : List Nat} {p : Nat}, xe_L M A p l → t ∈ l → ∃ p', xe_B M t p' (A t).1 (A t).2 ∧ p ≤ p' ∧ p' + xe_1 A t ≤ p + xe_sz A l
  | [], _, _, h => by cases h
  | u :: l, p, hL, h => by
    rw [xe_sz_cons]
    rcases List.mem_cons.mp h with e | e
    · subst e
      exact ⟨p, hL.1, Nat.le_refl _, by omega⟩
    · obtain ⟨p', h1, h2, h3⟩ := xe_L_at hL.2 e
      exact ⟨p', h1, by omega, by omega⟩
theorem xe_B_mv {M M' : wd_M} {t p w : Nat} {R : List ay_Row} (h : xe_B M t p w R) (h1 : M' 639 t = M 639 t) (h2 : M' 640 t = M 640 t) (h3 : M' 641 t = M 641 t) (h4 : ∀ i, p ≤ i → i < p + R.length * w → M' 638 i = M 638 i) : xe_B M' t p w R := by
  obtain ⟨g1, g2, g3, g4, g5, g6⟩ := h
  refine ⟨g1, by rw [h1]; exact g2, by rw [h2]; exact g3, by rw [h3]; exact g4, g5, sl_congr g6 fun i hi => h4 _ (by omega) ?_⟩
  rw [sl_flen g5] at hi
  omega
theorem xe_L_mv {M M' : wd_M} {A : xe_A} : ∀ {l : List Nat} {p : Nat}, xe_L M A p l → (∀ t, t ∈ l → M' 639 t = M 639 t ∧ M' 640 t = M 640 t ∧ M' 641 t = M 641 t) → (∀ i, p ≤ i → i < p + xe_sz A l → M' 638 i = M 638 i) → xe_L M' A p l
  | [], _, _, _, _ => trivial
  | t :: l, p, h, hf, hc => by
    rw [xe_sz_cons] at hc
    obtain ⟨f1, f2, f3⟩ := hf t (by simp)
    refine ⟨xe_B_mv h.1 f1 f2 f3 fun i h1 h2 => hc i h1 (by unfold xe_1; omega), xe_L_mv h.2 (fun u hu => hf u (by simp [hu])) fun i h1 h2 => hc i (by omega) (by omega)⟩
section XE
variable {d : Nat} {z : wd_Z} {L : wd_L}
/-- what tidy leaves as it was -/
def xe_ti (M M' : wd_M) : Prop := (∀ c, c ≠ 628 → c ≠ 638 → c ≠ 639 → c ≠ 643 → M' c = M c) ∧ (∀ i, i ≠ 5 → i ≠ 11 → M' 628 i = M 628 i)
theorem xe_tidy_7 {M0 : wd_M} {A : xe_A} {ND : Nat → Nat} {s : Nat} {lv : List Nat} {K : wd_Z → wd_M → wd_L → Prop} (hs : s < 32768) (hlv : lv.length ≤ 32768) (hnd : ∀ t, t ∈ lv → M0 642 t = nI (ND t) ∧ ND t < 100000) (h11 : M0 628 11 = nI lv.length) (hsz : xe_sz A lv ≤ 600000) (hdup : lv.Nodup)
    (hK : ∀ M', xe_ti M0 M' → xe_L M' A 0 (lv.filter (fun t => s < ND t)) → sl_at (M' 643) 0 (xe_nl (lv.filter (fun t => s < ND t))) → M' 628 11 = nI (lv.filter (fun t => s < ND t)).length → M' 628 5 = nI (xe_sz A (lv.filter (fun t => s < ND t))) → K z M' L) :
    ∀ (n k : Nat) (M : wd_M) (kept rest : List Nat) (pos : Nat), k + n = lv.length → lv = lv.take k ++ rest → kept = (lv.take k).filter (fun t => s < ND t) → xe_sz A kept ≤ pos → pos + xe_sz A rest ≤ 600000 → (∀ c, c ≠ 638 → c ≠ 639 → c ≠ 643 → M c = M0 c) → xe_L M A 0 kept → xe_L M A pos rest → sl_at (M 643) 0 (xe_nl kept) → sl_at (M 643) k (xe_nl rest) →
      wRun (d + 1, 0, 0) mX5_tidy 7 [some (.ref 628), some (.int (nI s)), some (.int (nI kept.length)), some (.int (nI (xe_sz A kept))), some (.int (nI k)), none, none] [] z M L (wQv K)
  | 0, k, M, kept, rest, pos, hk, hlr, hkp, hkz, hpz, hM, hL1, hL2, hth, hrt => by
    have ek : lv.take k = lv := List.take_of_length_le (by omega)
    rw [ek] at hkp
    refine fX5_tidy_7 ⟨fun _ => wQv_i (hK _ ⟨fun c c1 c2 c3 c4 => ?_, fun i i1 i2 => ?_⟩ ?_ ?_ ?_ ?_), fun q => absurd (by rw [hM 628 (by omega) (by omega) (by omega), h11]; exact nI_le (by omega) (by omega)) q⟩
    · rw [ak_up_cell c1, ak_up_cell c1]; exact hM c c2 c3 c4
    · rw [ak_up_ne i1, ak_up_ne i2, hM 628 (by omega) (by omega) (by omega)]
    · rw [← hkp]
      exact xe_L_mv hL1 (fun t _ => ⟨by rw [ak_up_cell (by omega), ak_up_cell (by omega)], by rw [ak_up_cell (by omega), ak_up_cell (by omega)], by rw [ak_up_cell (by omega), ak_up_cell (by omega)]⟩) fun i _ _ => by rw [ak_up_cell (by omega), ak_up_cell (by omega)]
    · rw [← hkp, ak_up_cell (by omega), ak_up_cell (by omega)]; exact hth
    · rw [← hkp, ak_up_ne (by omega), ak_up_same]
    · rw [← hkp, ak_up_same]
  | n + 1, k, M, kept, rest, pos, hk, hlr, hkp, hkz, hpz, hM, hL1, hL2, hth, hrt => by
    have hkl : kept.length ≤ k := by
      rw [hkp]
      exact Nat.le_trans (List.length_filter_le _ _) (by rw [List.length_take]; omega)
    cases rest with
    | nil =>
      rw [List.append_nil] at hlr
      have := congrArg List.length hlr
      rw [List.length_take] at this
      omega
    | cons t rest =>
      have hlk : lv[k]? = some t := by
        have : lv = lv.take k ++ t :: rest := hlr
        rw [this, List.getElem?_append_right (by rw [List.length_take]; omega), List.length_take, Nat.min_eq_left (by omega), Nat.sub_self]; rfl
      have htm : t ∈ lv := List.mem_of_getElem? hlk
      have hlr' : lv = lv.take (k + 1) ++ rest := by
        rw [sl_take hlk, List.append_assoc]; exact hlr
      unfold xe_nl at hrt
      rw [List.map_cons, sl_cons] at hrt
      rw [xe_sz_cons] at hpz
      obtain ⟨hB, hL3⟩ := hL2
      obtain ⟨b1, b2, b3, b4, b5, b6⟩ := id hB
      obtain ⟨nd1, nd2⟩ := hnd t htm
      have m42 : M 642 t = nI (ND t) := by rw [hM 642 (by omega) (by omega) (by omega)]; exact nd1
      have hpos : xe_sz A kept < 2 ^ 31 := by omega
      have h1s : xe_1 A t = (A t).2.length * (A t).1 := rfl
      refine fX5_tidy_7 ⟨fun q => absurd q (by rw [hM 628 (by omega) (by omega) (by omega), h11]; exact nI_ge (by omega) (by omega)), fun _ => ?_⟩
      have hin : vp_in (nI t) 32768 := vp_in_nI b1 (by omega)
      rw [nI_clamp (show k < 2 ^ 31 by omega), hrt.1, nI_clamp (show t < 2 ^ 31 by omega), m42, b2, b3, b4, pk_mul, ← h1s, nI_leI (by omega) (by omega), nI_leI (by omega) (by omega), nI_add, nI_clamp (show kept.length < 2 ^ 31 by omega), nI_clamp (show xe_sz A kept < 2 ^ 31 by omega), nI_clamp (show xe_1 A t < 2 ^ 31 by omega), nI_clamp (show pos < 2 ^ 31 by omega), nI_1, nI_1]
      have efil : (lv.take (k + 1)).filter (fun t => s < ND t) = if s < ND t then kept ++ [t] else kept := by
        rw [sl_take hlk, List.filter_append, ← hkp]
        by_cases h : s < ND t
        · rw [if_pos h]; simp [h]
        · rw [if_neg h]; simp [h]
      have hnk : t ∉ kept := fun h => by
        rw [hkp] at h
        have h2 := (List.mem_filter.mp h).1
        rw [hlr, List.nodup_append] at hdup
        exact hdup.2.2 t h2 t (by simp) rfl
      have hnr : t ∉ rest := fun h => by
        rw [hlr, List.nodup_append] at hdup
        exact (List.nodup_cons.mp hdup.2.1).1 h
      refine ⟨vp_in_nI (by omega) (by omega), hin, hin, hin, fun e => ?_, fun e => ⟨hin, fun e2 => ⟨vp_in_nI (by omega) (by omega), ?_⟩, fun e2 => ⟨hin, nI_pos (by omega), nI_pos (by omega), nI_pos (by omega), by omega, by omega, hin, vp_in_nI (by omega) (by omega), ?_⟩⟩⟩
      · exact xe_tidy_7 hs hlv hnd h11 hsz hdup hK n (k + 1) M kept rest (pos + xe_1 A t) (by omega) hlr' (by rw [efil, if_neg (by omega)]) (by omega) (by omega) hM hL1 hL3 hth hrt.2
      · have ep : pos = xe_sz A kept := by omega
        have := xe_tidy_7 (K := K) hs hlv hnd h11 hsz hdup hK n (k + 1) (am_up2 M 643 kept.length (nI t)) (kept ++ [t]) rest (pos + xe_1 A t) (by omega) hlr' (by rw [efil, if_pos (by omega)]) (by rw [xe_sz_app, xe_sz_cons, xe_sz_nil]; omega) (by omega) (fun c c1 c2 c3 => by rw [ak_up_cell c3]; exact hM c c1 c2 c3) ?_ ?_ ?_ ?_
        · rw [List.length_append, xe_sz_app, xe_sz_cons, xe_sz_nil, Nat.add_zero] at this
          exact this
        · rw [xe_L_app]
          refine ⟨xe_L_mv hL1 (fun t _ => ⟨by rw [ak_up_cell (by omega)], by rw [ak_up_cell (by omega)], by rw [ak_up_cell (by omega)]⟩) fun i _ _ => by rw [ak_up_cell (by omega)], ?_, trivial⟩
          rw [Nat.zero_add, ← ep]
          exact xe_B_mv hB (by rw [ak_up_cell (by omega)]) (by rw [ak_up_cell (by omega)]) (by rw [ak_up_cell (by omega)]) fun i _ _ => by rw [ak_up_cell (by omega)]
        · exact xe_L_mv hL3 (fun t _ => ⟨by rw [ak_up_cell (by omega)], by rw [ak_up_cell (by omega)], by rw [ak_up_cell (by omega)]⟩) fun i _ _ => by rw [ak_up_cell (by omega)]
        · unfold xe_nl at *
          rw [List.map_append, sl_app, List.length_map, ak_up_own]
          exact ⟨sl_upd hth (by rw [List.length_map]; omega), sl_one.mpr (by rw [Nat.zero_add, pk_us])⟩
        · rw [ak_up_own]
          exact sl_upd hrt.2 (by omega)
      · generalize hM' : am_up2 (am_up2 (am_copy M 638 638 pos (xe_sz A kept) (xe_1 A t)) 639 t (nI (xe_sz A kept))) 643 kept.length (nI t) = M'
        have g638 : M' 638 = va_cpy (M 638) (M 638) pos (xe_sz A kept) (xe_1 A t) := by rw [← hM', ak_up_cell (by omega), ak_up_cell (by omega), ak_cp_own]
        have g639 : ∀ u, u ≠ t → M' 639 u = M 639 u := fun u hu => by rw [← hM', ak_up_cell (by omega), ak_up_ne hu, ak_cp_cell (by omega)]
        have gO : ∀ c, c ≠ 638 → c ≠ 639 → c ≠ 643 → M' c = M c := fun c c1 c2 c3 => by rw [← hM', ak_up_cell c3, ak_up_cell c2, ak_cp_cell c1]
        have g643 : M' 643 = upd (M 643) kept.length (nI t) := by rw [← hM', ak_up_own, ak_up_cell (by omega), ak_cp_cell (by omega)]
        have := xe_tidy_7 (K := K) hs hlv hnd h11 hsz hdup hK n (k + 1) M' (kept ++ [t]) rest (pos + xe_1 A t) (by omega) hlr' (by rw [efil, if_pos (by omega)]) (by rw [xe_sz_app, xe_sz_cons, xe_sz_nil]; omega) (by omega) (fun c c1 c2 c3 => (gO c c1 c2 c3).trans (hM c c1 c2 c3)) ?_ ?_ ?_ ?_
        · rw [List.length_append, xe_sz_app, xe_sz_cons, xe_sz_nil, Nat.add_zero] at this
          exact this
        · rw [xe_L_app]
          refine ⟨xe_L_mv hL1 (fun u hu => ⟨g639 u fun e => hnk (e ▸ hu), by rw [gO 640 (by omega) (by omega) (by omega)], by rw [gO 641 (by omega) (by omega) (by omega)]⟩) fun i _ hi => by rw [g638, pk_cpy_out (by omega)], ⟨b1, ?_, ?_, ?_, b5, ?_⟩, trivial⟩
          · rw [← hM', ak_up_cell (by omega), ak_up_same, Nat.zero_add]
          · rw [gO 640 (by omega) (by omega) (by omega)]; exact b3
          · rw [gO 641 (by omega) (by omega) (by omega)]; exact b4
          · rw [g638, Nat.zero_add]
            exact sl_cpy_in b6 (by rw [sl_flen b5]; rfl)
        · exact xe_L_mv hL3 (fun u hu => ⟨g639 u fun e => hnr (e ▸ hu), by rw [gO 640 (by omega) (by omega) (by omega)], by rw [gO 641 (by omega) (by omega) (by omega)]⟩) fun i hi _ => by rw [g638, pk_cpy_out (by omega)]
        · unfold xe_nl at *
          rw [List.map_append, sl_app, List.length_map, g643]
          exact ⟨sl_upd hth (by rw [List.length_map]; omega), sl_one.mpr (by rw [Nat.zero_add, pk_us])⟩
        · rw [g643]
          exact sl_upd hrt.2 (by omega)
theorem xe_tidy {M : wd_M} {A : xe_A} {ND : Nat → Nat} {s : Nat} {lv : List Nat} {K : wd_Z → wd_M → wd_L → Prop} (hd : 1 ≤ d) (hs : s < 32768) (hlv : lv.length ≤ 32768) (hnd : ∀ t, t ∈ lv → M 642 t = nI (ND t) ∧ ND t < 100000) (h11 : M 628 11 = nI lv.length) (hsz : xe_sz A lv ≤ 600000) (hdup : lv.Nodup) (hL : xe_L M A 0 lv) (hth : sl_at (M 643) 0 (xe_nl lv))
    (hK : ∀ M', xe_ti M M' → xe_L M' A 0 (lv.filter (fun t => s < ND t)) → sl_at (M' 643) 0 (xe_nl (lv.filter (fun t => s < ND t))) → M' 628 11 = nI (lv.filter (fun t => s < ND t)).length → M' 628 5 = nI (xe_sz A (lv.filter (fun t => s < ND t))) → K z M' L) : wRunV (d, 0, 0) mX5_tidy [.ref 628, .int (nI s)] z M L K := by
  obtain ⟨d, rfl, hd'⟩ := ak_deep hd
  refine fX5_tidy_e ?_
  exact xe_tidy_7 (d := d) hs hlv hnd h11 hsz hdup hK lv.length 0 M [] lv 0 (by omega) rfl rfl (by rw [xe_sz_nil]; omega) (by omega) (fun _ _ _ _ => rfl) trivial hL (by unfold xe_nl; exact sl_nil) hth
end XE
