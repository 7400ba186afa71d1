/-! CONTRACTS of ApplyFree$Executor: gather -/
section XE
variable {d : Nat} {z : wd_Z} {M0 : wd_M} {L : wd_L} {s q : Nat}
/-- what gather has at hand -/
def xe_gt (M0 : wd_M) (s q l p w fr k c : Nat) (ls : List Int32) (R : List ay_Row) : Prop :=
  s < 32768 ∧ xe_B M0 l p w R ∧ l ≠ s ∧ p + R.length * w ≤ q ∧ q ≤ 600000 ∧ R.length ≤ 8192 ∧ xe_pr M0 s fr ls ∧ ls.length ≤ 256 ∧ (∀ c, c ∈ ls → ∃ j, c = nI j ∧ j < w) ∧ k ≤ 4 ∧ M0 20 s = nI k ∧ M0 21 s = nI c ∧ c < w ∧ w < 100000
/-- sums and flags of the keys so far -/
def xe_sums (M : wd_M) (k c : Nat) (ls : List Int32) (R : List ay_Row) (i : Nat) : Prop := ∀ j g, (ix_Ks (ex_key ls) R i)[j]? = some g → M 645 j = sm_fold k (xe_vs ls c (R.take i) g) ∧ (k ≠ 0 → M 648 j = xe_sm (xe_vs ls c (R.take i) g))
theorem xe_gath_64 {l p w fr k c : Nat} {ls : List Int32} {R : List ay_Row} {K : wd_Z → wd_M → wd_L → Prop} (hd : 2 ≤ d) (hg : xe_gt M0 s q l p w fr k c ls R)
    (hK : ∀ M', ix_J z M' p w 22 fr ls.length (ex_key ls) R R.length → xe_sums M' k c ls R R.length → xe_O M0 M' s q (ls.length + 1) [] 0 → wRun (d + 1, 0, 0) mX5_gather 192 [some (.ref 628), some (.int (nI s)), some (.int (nI l)), some (.int (nI ls.length)), none, some (.int (nI 0)), none, none, none, none] [] z M' L (wQv K)) :
    ∀ (n i : Nat) (M : wd_M) , i + n = R.length → ix_J z M p w 22 fr ls.length (ex_key ls) R i → xe_sums M k c ls R i → xe_O M0 M s q w [] 0 →
      wRun (d + 1, 0, 0) mX5_gather 64 [some (.ref 628), some (.int (nI s)), some (.int (nI l)), some (.int (nI ls.length)), some (.int (nI k)), some (.int (nI i)), none, none, none, none] [] z M L (wQv K)
  | 0, i, M, hi, hJ, hS, hO => by
    obtain ⟨hs, hB, hls, hp, hq, hRl, hP, hn, hcol, hk, h20, h21, hc, hw⟩ := id hg
    have ei : i = R.length := by omega
    subst ei
    have hB' := xe_B_fr hB hls hp hO.1
    have hl := hB'.1
    have O1 := xe_wd (ws' := ls.length + 1) hO
    have hB1 := xe_B_fr hB hls hp O1.1
    have hP1 := xe_pr_fr (M' := am_up2 M 641 s (nI (ls.length + 1))) hP fun c hc => O1.1.1 c (by omega)
    refine fX5_gather_64 ?_
    rw [nI_clamp (show l < 2 ^ 31 by omega), nI_clamp (show s < 2 ^ 31 by omega), hB'.2.2.1, nI_1]
    refine ⟨vp_in_nI hl (by omega), fun _ => ⟨vp_in_nI hs (by omega), ?_⟩, fun q => absurd (nI_le (Nat.le_refl _) (by omega)) q⟩
    exact hK _ (ix_J_mv hJ (fun c c1 c2 => ak_up_cell (by omega)) fun i' r' hi' => (xe_keys hB1 (by omega) (Or.inr (Or.inl ⟨rfl, rfl⟩)) hP1.2.2.1 hP1.2.2.2 hcol i' r' hi').1) (fun j g hj => by rw [ak_up_cell (by omega), ak_up_cell (by omega)]; exact hS j g hj) O1
  | n + 1, i, M, hi, hJ, hS, hO => by
    obtain ⟨hs, hB, hls, hp, hq, hRl, hP, hn, hcol, hk, h20, h21, hc, hw⟩ := id hg
    have hB' := xe_B_fr hB hls hp hO.1
    have hl := hB'.1
    obtain ⟨r, hri⟩ := sl_idx (show i < R.length by omega)
    have hrw := sl_W_at hB.2.2.2.2.1 hri
    have hat := xe_at_lt (w := w) hri
    have hKl := ix_Ks_len (kf := ex_key ls) (R := R) (k := i)
    have hKl1 := ix_Ks_len (kf := ex_key ls) (R := R) (k := i + 1)
    refine fX5_gather_64 ?_
    rw [nI_clamp (show l < 2 ^ 31 by omega), hB'.2.2.1]
    refine ⟨vp_in_nI hl (by omega), fun q => absurd q (nI_ge (by omega) (by omega)), fun _ => ?_⟩
    refine ix_add hd hJ hri hRl hn (Or.inl rfl) fun M1 j J1 hj hold hnew F1 F2 => ?_
    have O1 := xe_O_sc (M' := M1) hO fun c c1 c2 => F1 c (by omega)
    have hB1 := xe_B_fr hB hls hp O1.1
    have hjl := (List.getElem?_eq_some_iff.mp hj).1
    refine xe_at hB1 ?_
    have e21 : M1 21 s = nI c := by rw [O1.1.1 21 (by omega)]; exact h21
    have e638 : M1 638 (p + i * w + c) = r.getD c 0 := sl_fcell hB1.2.2.2.2.2 hB1.2.2.2.2.1 hri hc
    rw [nI_clamp (show s < 2 ^ 31 by omega), e21, nI_add, nI_clamp (show p + i * w + c < 2 ^ 31 by omega), e638, nI_clamp (show j < 2 ^ 31 by omega), hJ.2.1.1, J1.2.1.1, nI_leI (by omega) (by omega)]
    refine ⟨vp_in_nI hs (by omega), vp_in_nI (by omega) (by omega), ?_⟩
    have ekl : (ix_kl (ex_key ls) R (i + 1)).count (ex_key ls r) = (xe_vs ls c (R.take i) (ex_key ls r)).length + 1 := by
      rw [ix_kl_s hri, List.count_append, xe_vs_len]
      simp [ix_kl]
    have h36 : M1 636 j = nI ((xe_vs ls c (R.take i) (ex_key ls r)).length + 1) := by rw [(J1.2.2.2.1 j _ hj).2.2, ekl]
    have hvl : (xe_vs ls c (R.take i) (ex_key ls r)).length < 100000 := by
      have := xe_vs_len (ls := ls) (c := c) (R := R.take i) (g := ex_key ls r)
      have h2 := List.count_le_length (a := ex_key ls r) (l := (R.take i).map (ex_key ls))
      rw [List.length_map, List.length_take] at h2
      omega
    -- behind the fold
    have back : ∀ {M2 : wd_M} {so : Int32}, (∀ c, c ≠ 648 → M2 c = M1 c) → (∀ i', i' ≠ j → M2 648 i' = M1 648 i') → (k ≠ 0 → M2 648 j = xe_sm (xe_vs ls c (R.take i) (ex_key ls r) ++ [r.getD c 0])) → so = sm_fold k (xe_vs ls c (R.take i) (ex_key ls r) ++ [r.getD c 0]) → (vp_in (nI j) 8192 ∧ wRun (d + 1, 0, 0) mX5_gather 64 [some (.ref 628), some (.int (nI s)), some (.int (nI l)), some (.int (nI ls.length)), some (.int (nI k)), some (.int (nI i + 1)), none, none, none, none] [] z (am_up2 M2 645 j so) L (wQv K)) := fun {M2 so} g1 g2 g3 g4 => by
      rw [nI_1]
      have O2 := xe_O_sc (M' := am_up2 M2 645 j so) O1 fun c c1 c2 => by rw [ak_up_cell (by omega), g1 c (by omega)]
      have hB2 := xe_B_fr hB hls hp O2.1
      have hP2 := xe_pr_fr (M' := am_up2 M2 645 j so) hP fun c hc => O2.1.1 c (by omega)
      refine ⟨vp_in_nI (by omega) (by omega), xe_gath_64 hd hg hK n (i + 1) _ (by omega) (ix_J_mv J1 (fun c c1 c2 => by rw [ak_up_cell (by omega), g1 c (by omega)]) fun i' r' hi' => (xe_keys hB2 (by omega) (Or.inr (Or.inl ⟨rfl, rfl⟩)) hP2.2.2.1 hP2.2.2.2 hcol i' r' hi').1) (fun j' g hj' => ?_) O2⟩
      rw [xe_vs_s hri, ak_up_cell (c' := 648) (by omega)]
      by_cases ej : j' = j
      · subst ej
        rw [hj] at hj'
        have eg : ex_key ls r = g := Option.some.inj hj'
        rw [if_pos eg, ak_up_same, ← eg]
        exact ⟨g4, g3⟩
      · have ne : ¬ ex_key ls r = g := fun e => by
          rw [← e] at hj'
          exact ej ((List.getElem?_inj (i := j') (j := j) (List.getElem?_eq_some_iff.mp hj').1 (sm_once_nodup _)).mp (by show (ix_Ks (ex_key ls) R (i + 1))[j']? = (ix_Ks (ex_key ls) R (i + 1))[j]?; rw [hj, hj']))
        rw [if_neg ne, ak_up_ne ej, g2 j' ej, g1 645 (by omega), F1 645 (by omega), F1 648 (by omega)]
        refine hS j' g ?_
        by_cases hm : ex_key ls r ∈ ix_Ks (ex_key ls) R i
        · have e : ix_Ks (ex_key ls) R (i + 1) = ix_Ks (ex_key ls) R i := by
            unfold ix_Ks at hm ⊢
            rw [ix_kl_s hri, sm_once_snoc]
            exact if_pos hm
          rw [← e]; exact hj'
        · have e : ix_Ks (ex_key ls) R (i + 1) = ix_Ks (ex_key ls) R i ++ [ex_key ls r] := by
            unfold ix_Ks at hm ⊢
            rw [ix_kl_s hri, sm_once_snoc]
            exact if_neg hm
          rw [e] at hj'
          have hjn := hnew hm
          have hlt := (List.getElem?_eq_some_iff.mp hj').1
          rw [List.length_append] at hlt
          have hlt : j' < (ix_Ks (ex_key ls) R i).length + 1 := hlt
          rw [List.getElem?_append_left (by omega)] at hj'
          exact hj'
    refine ⟨fun e => ?_, fun e => ?_⟩
    · have hm : ex_key ls r ∈ ix_Ks (ex_key ls) R i := by
        refine Decidable.byContradiction fun hm => ?_
        have e2 : ix_Ks (ex_key ls) R (i + 1) = ix_Ks (ex_key ls) R i ++ [ex_key ls r] := by
          unfold ix_Ks at hm ⊢
          rw [ix_kl_s hri, sm_once_snoc]
          exact if_neg hm
        rw [e2, List.length_append] at e
        have e : _ + 1 ≤ _ := e
        omega
      have e2 : ix_Ks (ex_key ls) R (i + 1) = ix_Ks (ex_key ls) R i := by
        unfold ix_Ks at hm ⊢
        rw [ix_kl_s hri, sm_once_snoc]
        exact if_pos hm
      have hSj := hS j (ex_key ls r) (by rw [← e2]; exact hj)
      refine ⟨vp_in_nI (by omega) (by omega), xe_folded hk (by omega) hvl h36 (fun _ h0 => by rw [F1 648 (by omega)]; exact hSj.2 h0) (by rw [F1 645 (by omega)]; exact hSj.1) fun M2 g1 g2 g3 => back g1 g2 g3 rfl⟩
    · have hm : ex_key ls r ∉ ix_Ks (ex_key ls) R i := fun hm => e (by
        have e2 : ix_Ks (ex_key ls) R (i + 1) = ix_Ks (ex_key ls) R i := by
          unfold ix_Ks at hm ⊢
          rw [ix_kl_s hri, sm_once_snoc]
          exact if_pos hm
        rw [e2]; exact Nat.le_refl _)
      have hv0 : xe_vs ls c (R.take i) (ex_key ls r) = [] := xe_vs_nil fun h => hm (ix_Ks_mem.mpr h)
      rw [ak_n2, nI_leI (by omega) (by omega)]
      refine ⟨fun e2 => xe_folded hk (by omega) hvl h36 (fun h => absurd hv0 h) ?_ fun M2 g1 g2 g3 => back g1 g2 g3 rfl, fun e2 => xe_folded hk (by omega) hvl h36 (fun h => absurd hv0 h) ?_ fun M2 g1 g2 g3 => back g1 g2 g3 rfl⟩
      · rw [hv0]
        have : k = 2 ∨ k = 3 ∨ k = 4 := by omega
        rcases this with rfl | rfl | rfl <;> decide
      · rw [hv0]
        have : k = 0 ∨ k = 1 := by omega
        rcases this with rfl | rfl <;> decide
theorem xe_gath_224 {l p w fr k c j x6 cnt : Nat} {ls : List Int32} {R : List ay_Row} {r : ay_Row} {out : List Int32} {K : wd_Z → wd_M → wd_L → Prop} (hg : xe_gt M0 s q l p w fr k c ls R) (hj : j < 8192) (hx6 : x6 + w ≤ q) (hrw : r.length = w) (hrs : sl_at (M0 638) x6 r) (hr : q + out.length + (ls.length + 1) ≤ 600000) {sum : Int32}
    (hK : ∀ M', (∀ c, c ≠ 628 → c ≠ 638 → c ≠ 640 → M' c = M' c) → ix_J z M' p w 22 fr ls.length (ex_key ls) R R.length → xe_sums M' k c ls R R.length → xe_O M0 M' s q (ls.length + 1) (out ++ (ex_key ls r ++ [sum])) (cnt + 1) → wRun (d + 1, 0, 0) mX5_gather 192 [some (.ref 628), some (.int (nI s)), some (.int (nI l)), some (.int (nI ls.length)), none, some (.int (nI (j + 1))), none, none, none, none] [] z M' L (wQv K)) :
    ∀ (n i : Nat) (M : wd_M), i + n = ls.length → M 645 j = sum → ix_J z M p w 22 fr ls.length (ex_key ls) R R.length → xe_sums M k c ls R R.length → xe_O M0 M s q (ls.length + 1) (out ++ ex_key (ls.take i) r) cnt →
      wRun (d + 1, 0, 0) mX5_gather 224 [some (.ref 628), some (.int (nI s)), some (.int (nI l)), some (.int (nI ls.length)), none, some (.int (nI j)), some (.int (nI x6)), some (.int (nI i)), none, none] [] z M L (wQv K)
  | 0, i, M, hi, hsum, hJ, hS, hO => by
    obtain ⟨hs, hB, hls, hp, hq, hRl, hP, hn, hcol, hk, h20, h21, hc, hw⟩ := id hg
    have ei : i = ls.length := by omega
    subst ei
    rw [List.take_length] at hO
    have hkl : (ex_key ls r).length = ls.length := by unfold ex_key; rw [List.length_map]
    refine fX5_gather_224 ⟨fun _ => ?_, fun q => absurd (nI_le (Nat.le_refl _) (by omega)) q⟩
    rw [nI_clamp (show j < 2 ^ 31 by omega), hsum]
    refine ⟨vp_in_nI hj (by omega), xe_put hO (by rw [List.length_append, hkl]; omega) fun M1 O1 F1 => ?_⟩
    rw [nI_clamp (show s < 2 ^ 31 by omega), O1.2.2.1, nI_1, nI_1]
    have O2 := xe_O_inc O1
    have hB2 := xe_B_fr hB hls hp O2.1
    have hP2 := xe_pr_fr (M' := am_up2 M1 640 s (nI (cnt + 1))) hP fun c hc => O2.1.1 c (by omega)
    refine ⟨vp_in_nI hs (by omega), vp_in_nI hs (by omega), hK _ (fun _ _ _ _ => rfl) (ix_J_mv hJ (fun c c1 c2 => by rw [ak_up_cell (by omega), F1 c (by omega) (by omega)]) fun i' r' hi' => (xe_keys hB2 (by omega) (Or.inr (Or.inl ⟨rfl, rfl⟩)) hP2.2.2.1 hP2.2.2.2 hcol i' r' hi').1) (fun j' g hj' => by rw [ak_up_cell (by omega), ak_up_cell (by omega), F1 645 (by omega) (by omega), F1 648 (by omega) (by omega)]; exact hS j' g hj') (by rw [← List.append_assoc]; exact O2)⟩
  | n + 1, i, M, hi, hsum, hJ, hS, hO => by
    obtain ⟨hs, hB, hls, hp, hq, hRl, hP, hn, hcol, hk, h20, h21, hc, hw⟩ := id hg
    have hP' := xe_pr_fr (M' := M) hP fun c hc => hO.1.1 c (by omega)
    have hpl := hP'.2.2.2
    have hil : i < ls.length := by omega
    obtain ⟨cc, c1, c2⟩ := hcol ls[i] (List.getElem_mem hil)
    have e22 : M 22 (fr + i) = nI cc := by rw [sl_get hP'.2.2.1 hil, c1]
    have e638 : M 638 (x6 + cc) = r.getD cc 0 := by rw [hO.1.2.2.2.2.2.2.2.2 _ (by omega)]; exact sl_getD hrs (by omega)
    have hkl : (ex_key (ls.take i) r).length = i := by unfold ex_key; rw [List.length_map, List.length_take]; omega
    refine fX5_gather_224 ⟨fun q => absurd q (nI_ge (by omega) (by omega)), fun _ => ?_⟩
    rw [nI_clamp (show s < 2 ^ 31 by omega), hP'.1, nI_add, nI_clamp (show fr + i < 2 ^ 31 by omega), e22, nI_add, nI_clamp (show x6 + cc < 2 ^ 31 by omega), e638, nI_1]
    refine ⟨vp_in_nI hs (by omega), vp_in_nI (by omega) (by omega), vp_in_nI (by omega) (by omega), xe_put hO (by rw [List.length_append, hkl]; omega) fun M1 O1 F1 => ?_⟩
    have hB2 := xe_B_fr hB hls hp O1.1
    have hP2 := xe_pr_fr (M' := M1) hP fun c hc => O1.1.1 c (by omega)
    refine xe_gath_224 hg hj hx6 hrw hrs hr hK n (i + 1) M1 (by omega) (by rw [F1 645 (by omega) (by omega)]; exact hsum) (ix_J_mv hJ (fun c c1 c2 => F1 c (by omega) (by omega)) fun i' r' hi' => (xe_keys hB2 (by omega) (Or.inr (Or.inl ⟨rfl, rfl⟩)) hP2.2.2.1 hP2.2.2.2 hcol i' r' hi').1) (fun j' g hj' => by rw [F1 645 (by omega) (by omega), F1 648 (by omega) (by omega)]; exact hS j' g hj') ?_
    have : ex_key (ls.take (i + 1)) r = ex_key (ls.take i) r ++ [r.getD cc 0] := by
      rw [sl_take (List.getElem?_eq_getElem hil)]
      unfold ex_key
      rw [List.map_append, c1]
      simp only [List.map_cons, List.map_nil]
      rw [nI_clamp (by omega)]
    rw [this, ← List.append_assoc]
    exact O1
theorem ex_gath_eq {ls : List Int32} {k c : Nat} {R : List ay_Row} : ex_gath ls k c R = (ix_Ks (ex_key ls) R R.length).map (fun g => g ++ [sm_fold k (xe_vs ls c R g)]) := by
  unfold ex_gath ix_Ks ix_kl xe_vs
  rw [List.take_length]
theorem xe_gath_192 {l p w fr k c : Nat} {ls : List Int32} {R : List ay_Row} {K : wd_Z → wd_M → wd_L → Prop} (hg : xe_gt M0 s q l p w fr k c ls R) (hr : q + (ex_gath ls k c R).flatten.length ≤ 600000)
    (hK : ∀ M', xe_O M0 M' s q (ls.length + 1) (ex_gath ls k c R).flatten (ex_gath ls k c R).length → K z M' L) :
    ∀ (n j : Nat) (M : wd_M), j + n = (ix_Ks (ex_key ls) R R.length).length → ix_J z M p w 22 fr ls.length (ex_key ls) R R.length → xe_sums M k c ls R R.length → xe_O M0 M s q (ls.length + 1) ((ex_gath ls k c R).take j).flatten ((ex_gath ls k c R).take j).length →
      wRun (d + 1, 0, 0) mX5_gather 192 [some (.ref 628), some (.int (nI s)), some (.int (nI l)), some (.int (nI ls.length)), none, some (.int (nI j)), none, none, none, none] [] z M L (wQv K)
  | 0, j, M, hj, hJ, hS, hO => by
    obtain ⟨hs, hB, hls, hp, hq, hRl, hP, hn, hcol, hk, h20, h21, hc, hw⟩ := id hg
    have hKl := ix_Ks_len (kf := ex_key ls) (R := R) (k := R.length)
    have ej : j = (ix_Ks (ex_key ls) R R.length).length := by omega
    have egl : (ex_gath ls k c R).length = (ix_Ks (ex_key ls) R R.length).length := by rw [ex_gath_eq, List.length_map]
    rw [List.take_of_length_le (by omega)] at hO
    refine fX5_gather_192 ?_
    rw [hJ.2.1.1]
    exact ⟨fun _ => wQv_i (hK M hO), fun q => absurd (nI_le (by omega) (by omega)) q⟩
  | n + 1, j, M, hj, hJ, hS, hO => by
    obtain ⟨hs, hB, hls, hp, hq, hRl, hP, hn, hcol, hk, h20, h21, hc, hw⟩ := id hg
    have hKl := ix_Ks_len (kf := ex_key ls) (R := R) (k := R.length)
    obtain ⟨g, hgj⟩ := sl_idx (show j < (ix_Ks (ex_key ls) R R.length).length by omega)
    obtain ⟨⟨f0, f1, f2, -⟩, -⟩ := hJ.2.2.2.1 j g hgj
    obtain ⟨hfl, r, hr1, hr2⟩ := ix_kl_at f2
    have hrw := sl_W_at hB.2.2.2.2.1 hr1
    have hat := xe_at_lt (w := w) hr1
    have hB' := xe_B_fr hB hls hp hO.1
    have eg : (ex_gath ls k c R)[j]? = some (g ++ [sm_fold k (xe_vs ls c R g)]) := by rw [ex_gath_eq, List.getElem?_map, hgj]; rfl
    have hkl : (ex_key ls r).length = ls.length := by unfold ex_key; rw [List.length_map]
    have rm := xe_room1 eg
    rw [List.length_append, ← hr2, hkl] at rm
    have rm : _ + (ls.length + 1) ≤ _ := rm
    have h45 := (hS j g hgj).1
    rw [List.take_length] at h45
    refine fX5_gather_192 ?_
    rw [hJ.2.1.1, nI_clamp (show j < 2 ^ 31 by omega), f1]
    refine ⟨fun q => absurd q (nI_ge (by omega) (by omega)), fun _ => ⟨vp_in_nI (by omega) (by omega), xe_at hB' ?_⟩⟩
    rw [ak_n0]
    refine xe_gath_224 (r := r) (out := ((ex_gath ls k c R).take j).flatten) (cnt := ((ex_gath ls k c R).take j).length) hg (by omega) (by omega) hrw (sl_fget hB.2.2.2.2.2 hB.2.2.2.2.1 hr1) (by omega) (sum := sm_fold k (xe_vs ls c R g)) (fun M1 _ J1 S1 O1 => ?_) ls.length 0 M (by omega) h45 hJ hS (by simpa [ex_key] using hO)
    refine xe_gath_192 hg hr hK n (j + 1) M1 (by omega) J1 S1 ?_
    rw [sl_take eg, List.flatten_append, List.length_append, ← hr2]
    have e2 : ([ex_key ls r ++ [sm_fold k (xe_vs ls c R (ex_key ls r))]] : List ay_Row).flatten = ex_key ls r ++ [sm_fold k (xe_vs ls c R (ex_key ls r))] := by simp
    rw [e2]
    rw [hr2] at O1 ⊢
    exact O1
theorem xe_gather {M : wd_M} {l p w fr k c : Nat} {ls : List Int32} {R : List ay_Row} {K : wd_Z → wd_M → wd_L → Prop} (hd : 3 ≤ d) (hO : xe_O M0 M s q w [] 0) (hg : xe_gt M0 s q l p w fr k c ls R) (hr : q + (ex_gath ls k c R).flatten.length ≤ 600000)
    (hK : ∀ M', xe_O M0 M' s q (ls.length + 1) (ex_gath ls k c R).flatten (ex_gath ls k c R).length → K (ix_z z 22) M' L) : wRunV (d, 0, 0) mX5_gather [.ref 628, .int (nI s), .int (nI l)] z M L K := by
  obtain ⟨hs, hB, hls, hp, hq, hRl, hP, hn, hcol, hk, h20, h21, hc, hw⟩ := id hg
  obtain ⟨d, rfl, hd'⟩ := ak_deep hd
  have hB' := xe_B_fr hB hls hp hO.1
  have hP' := xe_pr_fr (M' := M) hP fun c hc => hO.1.1 c (by omega)
  have hl := hB'.1
  have e20 : M 20 s = nI k := by rw [hO.1.1 20 (by omega)]; exact h20
  refine fX5_gather_e ?_
  rw [nI_clamp (show s < 2 ^ 31 by omega), nI_clamp (show l < 2 ^ 31 by omega), hB'.2.1, hB'.2.2.2.1, hP'.1, hP'.2.1, e20, ak_n0]
  refine ⟨vp_in_nI hs (by omega), vp_in_nI hs (by omega), vp_in_nI hl (by omega), vp_in_nI hl (by omega), vp_in_nI hs (by omega), ?_⟩
  refine ix_begin (kf := ex_key ls) (R := R) (Or.inl rfl) (fun i r hi => xe_keys hB' (by omega) (Or.inr (Or.inl ⟨rfl, rfl⟩)) hP'.2.2.1 hP'.2.2.2 hcol i r hi) fun M1 J1 F1 => ?_
  have O1 := xe_O_sc (M' := M1) hO fun c c1 c2 => F1 c (by omega) (by omega)
  exact xe_gath_64 (d := d) (z := ix_z z 22) hd' hg (fun M2 J2 S2 O2 => xe_gath_192 hg hr hK (ix_Ks (ex_key ls) R R.length).length 0 M2 (Nat.zero_add _) J2 S2 (by simpa using O2)) R.length 0 M1 (by omega) J1 (fun j g hj => by unfold ix_Ks ix_kl at hj; simp [sm_once] at hj) O1
end XE
