/-! CONTRACTS of ApplyFree$Executor: select, extend, pick, cross, lay -/
section XE
variable {d : Nat} {z : wd_Z} {M0 : wd_M} {L : wd_L} {s q : Nat}
theorem ex_prog_go {r : ay_Row} {pr : List Int32} {v : Int32} (hr : r.length < 100000) (h : rk_go r pr [] [v]) : ex_prog pr r = v := by
  unfold ex_prog
  rw [rk_go_rk hr pr.length pr [] [v] (Nat.le_refl _) h]; rfl
theorem xe_select_2 {l p w fr : Nat} {R : List ay_Row} {pr : List Int32} {K : wd_Z → wd_M → wd_L → Prop} (hd : 4 ≤ d) (hs : s < 32768) (hB : xe_B M0 l p w R) (hls : l ≠ s) (hp : p + R.length * w ≤ q) (hq : q ≤ 600000) (hRl : R.length < 100000) (hw : w < 100000) (hP : xe_pr M0 s fr pr) (hg : ∀ r, r ∈ R → ∃ v, rk_go r pr [] [v])
    (hr : q + (R.flatMap (fun x => if ex_prog pr x == 1 then [x] else [])).flatten.length ≤ 600000)
    (hK : ∀ M', xe_O M0 M' s q w (R.flatMap (fun x => if ex_prog pr x == 1 then [x] else [])).flatten (R.flatMap (fun x => if ex_prog pr x == 1 then [x] else [])).length → K z M' L) : ∀ (n i : Nat) (M : wd_M), i + n = R.length → xe_O M0 M s q w ((R.take i).flatMap (fun x => if ex_prog pr x == 1 then [x] else [])).flatten ((R.take i).flatMap (fun x => if ex_prog pr x == 1 then [x] else [])).length → wRun (d + 1, 0, 0) mX5_select 2 [some (.ref 628), some (.int (nI s)), some (.int (nI l)), some (.int (nI i))] [] z M L (wQv K)
  | 0, i, M, hi, hO => by
    have ei : i = R.length := by omega
    subst ei
    have hB' := xe_B_fr hB hls hp hO.1
    rw [List.take_length] at hO
    refine fX5_select_2 ?_
    have hl := hB'.1
    rw [nI_clamp (by omega), hB'.2.2.1]
    exact ⟨vp_in_nI hl (by omega), fun _ => wQv_i (hK M hO), fun q => absurd (nI_le (Nat.le_refl _) (by omega)) q⟩
  | n + 1, i, M, hi, hO => by
    have hB' := xe_B_fr hB hls hp hO.1
    obtain ⟨r, hri⟩ := sl_idx (show i < R.length by omega)
    have hrw := sl_W_at hB.2.2.2.2.1 hri
    have hat := xe_at_lt (w := w) hri
    have hl := hB'.1
    obtain ⟨v, hv⟩ := hg r (List.mem_of_getElem? hri)
    have ev := ex_prog_go (by omega) hv
    have rm := xe_room (f := fun x => if ex_prog pr x == 1 then [x] else []) hri
    have et := xe_take (f := fun x => if ex_prog pr x == 1 then [x] else []) hri
    refine fX5_select_2 ?_
    rw [nI_clamp (by omega), hB'.2.2.1]
    refine ⟨vp_in_nI hl (by omega), fun q => absurd q (nI_ge (by omega) (by omega)), fun _ => ?_⟩
    refine xe_reckon (fr := fr) hd hs hB' (by omega) hri (xe_pr_fr hP fun c hc => hO.1.1 c (by omega)) hv fun M1 F1 => ?_
    have O1 := xe_O_sc (M' := M1) hO fun c c1 c2 => F1 c (by omega)
    rw [nI_1]
    refine ⟨fun e => ?_, fun e => ?_⟩
    · have e1 : (if ex_prog pr r == 1 then [r] else ([] : List ay_Row)) = [r] := by rw [ev, e]; rfl
      rw [e1] at rm et
      have rm : _ + ([r] : List ay_Row).flatten.length ≤ _ := rm
      have er : ([r] : List ay_Row).flatten = r := by simp
      rw [er, hrw] at rm
      refine xe_copy (f := 0) (by omega) O1 (xe_B_fr hB hls hp O1.1) (by omega) hri (by omega) (by omega) fun M2 O2 F2 => ?_
      rw [nI_clamp (by omega), O2.2.2.1, nI_1]
      refine ⟨vp_in_nI hs (by omega), vp_in_nI hs (by omega), ?_⟩
      refine xe_select_2 hd hs hB hls hp hq hRl hw hP hg hr hK n (i + 1) _ (by omega) ?_
      rw [et, List.flatten_append, List.length_append, er]
      exact xe_O_inc O2
    · have e1 : (if ex_prog pr r == 1 then [r] else ([] : List ay_Row)) = [] := by rw [ev]; simp [e]
      rw [e1, List.append_nil] at et
      refine xe_select_2 hd hs hB hls hp hq hRl hw hP hg hr hK n (i + 1) _ (by omega) ?_
      rw [et]
      exact O1
theorem xe_filter {pr : List Int32} (R : List ay_Row) : R.flatMap (fun x => if ex_prog pr x == 1 then [x] else []) = R.filter (fun x => ex_prog pr x == 1) := by
  induction R with
  | nil => rfl
  | cons x R ih =>
    rw [List.flatMap_cons, ih, List.filter_cons]
    split <;> simp
theorem xe_select {M : wd_M} {l p w fr : Nat} {R : List ay_Row} {pr : List Int32} {K : wd_Z → wd_M → wd_L → Prop} (hd : 5 ≤ d) (hs : s < 32768) (hO : xe_O M0 M s q w [] 0) (hB : xe_B M0 l p w R) (hls : l ≠ s) (hp : p + R.length * w ≤ q) (hq : q ≤ 600000) (hRl : R.length < 100000) (hw : w < 100000) (hP : xe_pr M0 s fr pr) (hg : ∀ r, r ∈ R → ∃ v, rk_go r pr [] [v])
    (hr : q + (R.filter (fun x => ex_prog pr x == 1)).flatten.length ≤ 600000)
    (hK : ∀ M', xe_O M0 M' s q w (R.filter (fun x => ex_prog pr x == 1)).flatten (R.filter (fun x => ex_prog pr x == 1)).length → K z M' L) : wRunV (d, 0, 0) mX5_select [.ref 628, .int (nI s), .int (nI l)] z M L K := by
  obtain ⟨d, rfl, hd'⟩ := ak_deep hd
  refine fX5_select_e ?_
  rw [← xe_filter] at hr
  exact xe_select_2 (d := d) hd' hs hB hls hp hq hRl hw hP hg hr (fun M' h => hK M' (by rw [← xe_filter]; exact h)) R.length 0 M (by omega) (by simpa using hO)
theorem xe_extend_12 {l p w fr : Nat} {R : List ay_Row} {pr : List Int32} {K : wd_Z → wd_M → wd_L → Prop} (hd : 4 ≤ d) (hs : s < 32768) (hB : xe_B M0 l p w R) (hls : l ≠ s) (hp : p + R.length * w ≤ q) (hq : q ≤ 600000) (hRl : R.length < 100000) (hw : w < 100000) (hP : xe_pr M0 s fr pr) (hg : ∀ r, r ∈ R → ∃ v, rk_go r pr [] [v])
    (hr : q + (R.flatMap (fun x => [x ++ [ex_prog pr x]])).flatten.length ≤ 600000)
    (hK : ∀ M', xe_O M0 M' s q (w + 1) (R.flatMap (fun x => [x ++ [ex_prog pr x]])).flatten (R.flatMap (fun x => [x ++ [ex_prog pr x]])).length → K z M' L) : ∀ (n i : Nat) (M : wd_M), i + n = R.length → xe_O M0 M s q (w + 1) ((R.take i).flatMap (fun x => [x ++ [ex_prog pr x]])).flatten ((R.take i).flatMap (fun x => [x ++ [ex_prog pr x]])).length → wRun (d + 1, 0, 0) mX5_extend 12 [some (.ref 628), some (.int (nI s)), some (.int (nI l)), some (.int (nI i)), none] [] z M L (wQv K)
  | 0, i, M, hi, hO => by
    have ei : i = R.length := by omega
    subst ei
    have hB' := xe_B_fr hB hls hp hO.1
    rw [List.take_length] at hO
    refine fX5_extend_12 ?_
    have hl := hB'.1
    rw [nI_clamp (by omega), hB'.2.2.1]
    exact ⟨vp_in_nI hl (by omega), fun _ => wQv_i (hK M hO), fun q => absurd (nI_le (Nat.le_refl _) (by omega)) q⟩
  | n + 1, i, M, hi, hO => by
    have hB' := xe_B_fr hB hls hp hO.1
    obtain ⟨r, hri⟩ := sl_idx (show i < R.length by omega)
    have hrw := sl_W_at hB.2.2.2.2.1 hri
    have hat := xe_at_lt (w := w) hri
    have hl := hB'.1
    obtain ⟨v, hv⟩ := hg r (List.mem_of_getElem? hri)
    have ev := ex_prog_go (by omega) hv
    have rm := xe_room (f := fun x => [x ++ [ex_prog pr x]]) hri
    have et := xe_take (f := fun x => [x ++ [ex_prog pr x]]) hri
    have er : ([r ++ [v]] : List ay_Row).flatten = r ++ [v] := by simp
    rw [ev] at rm et
    rw [er, List.length_append, hrw] at rm
    have rm : _ + (w + 1) ≤ _ := rm
    refine fX5_extend_12 ?_
    rw [nI_clamp (by omega), hB'.2.2.1]
    refine ⟨vp_in_nI hl (by omega), fun q => absurd q (nI_ge (by omega) (by omega)), fun _ => ?_⟩
    refine xe_reckon (fr := fr) hd hs hB' (by omega) hri (xe_pr_fr hP fun c hc => hO.1.1 c (by omega)) hv fun M1 F1 => ?_
    have O1 := xe_O_sc (M' := M1) hO fun c c1 c2 => F1 c (by omega)
    rw [nI_1]
    refine xe_copy (f := 0) (by omega) O1 (xe_B_fr hB hls hp O1.1) (by omega) hri (by omega) (by omega) fun M2 O2 F2 => ?_
    rw [List.drop_zero] at O2
    refine xe_put O2 (by rw [List.length_append, hrw]; omega) fun M3 O3 F3 => ?_
    rw [nI_clamp (by omega), O3.2.2.1, nI_1]
    refine ⟨vp_in_nI hs (by omega), vp_in_nI hs (by omega), ?_⟩
    refine xe_extend_12 hd hs hB hls hp hq hRl hw hP hg hr hK n (i + 1) _ (by omega) ?_
    rw [et, List.flatten_append, List.length_append, er, ← List.append_assoc]
    exact xe_O_inc O3
theorem xe_map (f : ay_Row → ay_Row) (R : List ay_Row) : R.flatMap (fun x => [f x]) = R.map f := by
  induction R with
  | nil => rfl
  | cons x R ih => rw [List.flatMap_cons, ih, List.map_cons]; rfl
theorem xe_wd {M : wd_M} {ws ws' : Nat} {out : List Int32} {k : Nat} (h : xe_O M0 M s q ws out k) : xe_O M0 (am_up2 M 641 s (nI ws')) s q ws' out k := by
  obtain ⟨f, h1, h2, h3, h4⟩ := h
  refine ⟨xe_fr_trans f ⟨fun c hc => ak_up_cell (by omega), fun i _ => by rw [ak_up_cell (by omega)], ak_up_cell (by omega), fun t _ => by rw [ak_up_cell (by omega)], fun t ht => ak_up_ne ht, ak_up_cell (by omega), ak_up_cell (by omega), ak_up_cell (by omega), fun i _ => by rw [ak_up_cell (by omega)]⟩, by rw [ak_up_cell (by omega)]; exact h1, by rw [ak_up_cell (by omega)]; exact h2, ak_up_same, by rw [ak_up_cell (by omega)]; exact h4⟩
theorem xe_extend {M : wd_M} {l p w fr : Nat} {R : List ay_Row} {pr : List Int32} {K : wd_Z → wd_M → wd_L → Prop} (hd : 5 ≤ d) (hs : s < 32768) (hO : xe_O M0 M s q w [] 0) (hB : xe_B M0 l p w R) (hls : l ≠ s) (hp : p + R.length * w ≤ q) (hq : q ≤ 600000) (hRl : R.length < 100000) (hw : w < 100000) (hP : xe_pr M0 s fr pr) (hg : ∀ r, r ∈ R → ∃ v, rk_go r pr [] [v])
    (hr : q + (R.map (fun x => x ++ [ex_prog pr x])).flatten.length ≤ 600000)
    (hK : ∀ M', xe_O M0 M' s q (w + 1) (R.map (fun x => x ++ [ex_prog pr x])).flatten (R.map (fun x => x ++ [ex_prog pr x])).length → K z M' L) : wRunV (d, 0, 0) mX5_extend [.ref 628, .int (nI s), .int (nI l)] z M L K := by
  obtain ⟨d, rfl, hd'⟩ := ak_deep hd
  refine fX5_extend_e ?_
  rw [nI_clamp (by omega), hO.2.2.2.1, nI_1]
  refine ⟨vp_in_nI hs (by omega), vp_in_nI hs (by omega), ?_⟩
  rw [← xe_map] at hr
  exact xe_extend_12 (d := d) hd' hs hB hls hp hq hRl hw hP hg hr (fun M' h => hK M' (by rw [← xe_map]; exact h)) R.length 0 _ (by omega) (by simpa using xe_wd (ws' := w + 1) hO)
/-- a row picked by a list -/
theorem xe_pick_38 {l w fr i x4 : Nat} {r : ay_Row} {pr : List Int32} {out : List Int32} {k : Nat} {K : wd_Z → wd_M → wd_L → Prop} (hs : s < 32768) (hx : x4 + w ≤ 600000) (hP : xe_pr M0 s fr pr) (hrw : r.length = w) (hx4 : x4 + w ≤ q) (hrs : sl_at (M0 638) x4 r) (hcol : ∀ c, c ∈ pr → ∃ j, c = nI j ∧ j < w) (hr : q + out.length + pr.length ≤ 600000)
    (hK : ∀ M', xe_O M0 M' s q pr.length (out ++ ex_key pr r) (k + 1) → wRun (d + 1, 0, 0) mX5_pick 17 [some (.ref 628), some (.int (nI s)), some (.int (nI l)), some (.int (nI (i + 1))), none, none] [] z M' L (wQv K)) :
    ∀ (n j : Nat) (M : wd_M), j + n = pr.length → xe_O M0 M s q pr.length (out ++ ex_key (pr.take j) r) k → wRun (d + 1, 0, 0) mX5_pick 38 [some (.ref 628), some (.int (nI s)), some (.int (nI l)), some (.int (nI i)), some (.int (nI x4)), some (.int (nI j))] [] z M L (wQv K)
  | 0, j, M, hj, hO => by
    have ej : j = pr.length := by omega
    subst ej
    rw [List.take_length] at hO
    have hP' := xe_pr_fr (M' := M) hP fun c hc => hO.1.1 c (by omega)
    refine fX5_pick_38 ?_
    rw [nI_clamp (by omega), hP'.2.1, hO.2.2.1, nI_1, nI_1]
    have hpl := hP'.2.2.2
    exact ⟨vp_in_nI hs (by omega), fun _ => ⟨vp_in_nI hs (by omega), vp_in_nI hs (by omega), hK _ (xe_O_inc hO)⟩, fun q => absurd (nI_le (Nat.le_refl _) (by omega)) q⟩
  | n + 1, j, M, hj, hO => by
    have hP' := xe_pr_fr (M' := M) hP fun c hc => hO.1.1 c (by omega)
    have hpl := hP'.2.2.2
    have hjl : j < pr.length := by omega
    obtain ⟨c, c1, c2⟩ := hcol pr[j] (List.getElem_mem hjl)
    have e22 : M 22 (fr + j) = nI c := by rw [sl_get hP'.2.2.1 hjl, c1]
    have e638 : M 638 (x4 + c) = r.getD c 0 := by rw [hO.1.2.2.2.2.2.2.2.2 _ (by omega)]; exact sl_getD hrs (by omega)
    refine fX5_pick_38 ?_
    rw [nI_clamp (show s < 2 ^ 31 by omega), hP'.2.1, hP'.1, nI_add, nI_clamp (show fr + j < 2 ^ 31 by omega), e22, nI_add, nI_clamp (show x4 + c < 2 ^ 31 by omega), e638, nI_1, nI_1]
    refine ⟨vp_in_nI hs (by omega), fun q => absurd q (nI_ge (by omega) (by omega)), fun _ => ⟨vp_in_nI hs (by omega), vp_in_nI (by omega) (by omega), vp_in_nI (by omega) (by omega), ?_⟩⟩
    have hkl : (ex_key (pr.take j) r).length = j := by unfold ex_key; rw [List.length_map, List.length_take]; omega
    refine xe_put hO (by rw [List.length_append, hkl]; omega) fun M1 O1 F1 => ?_
    refine xe_pick_38 hs hx hP hrw hx4 hrs hcol hr hK n (j + 1) M1 (by omega) ?_
    have : ex_key (pr.take (j + 1)) r = ex_key (pr.take j) r ++ [r.getD c 0] := by
      rw [sl_take (List.getElem?_eq_getElem hjl)]
      unfold ex_key
      rw [List.map_append, c1]
      simp only [List.map_cons, List.map_nil]
      rw [nI_clamp (by omega)]
    rw [this, ← List.append_assoc]
    exact O1
theorem xe_pick_17 {l p w fr : Nat} {R : List ay_Row} {pr : List Int32} {K : wd_Z → wd_M → wd_L → Prop} (hs : s < 32768) (hB : xe_B M0 l p w R) (hls : l ≠ s) (hp : p + R.length * w ≤ q) (hq : q ≤ 600000) (hRl : R.length < 100000) (hP : xe_pr M0 s fr pr) (hcol : ∀ c, c ∈ pr → ∃ j, c = nI j ∧ j < w)
    (hr : q + (R.flatMap (fun x => [ex_key pr x])).flatten.length ≤ 600000)
    (hK : ∀ M', xe_O M0 M' s q pr.length (R.flatMap (fun x => [ex_key pr x])).flatten (R.flatMap (fun x => [ex_key pr x])).length → K z M' L) : ∀ (n i : Nat) (M : wd_M), i + n = R.length → xe_O M0 M s q pr.length ((R.take i).flatMap (fun x => [ex_key pr x])).flatten ((R.take i).flatMap (fun x => [ex_key pr x])).length → wRun (d + 1, 0, 0) mX5_pick 17 [some (.ref 628), some (.int (nI s)), some (.int (nI l)), some (.int (nI i)), none, none] [] z M L (wQv K)
  | 0, i, M, hi, hO => by
    have ei : i = R.length := by omega
    subst ei
    have hB' := xe_B_fr hB hls hp hO.1
    rw [List.take_length] at hO
    refine fX5_pick_17 ?_
    have hl := hB'.1
    rw [nI_clamp (by omega), hB'.2.2.1]
    exact ⟨vp_in_nI hl (by omega), fun _ => wQv_i (hK M hO), fun q => absurd (nI_le (Nat.le_refl _) (by omega)) q⟩
  | n + 1, i, M, hi, hO => by
    have hB' := xe_B_fr hB hls hp hO.1
    obtain ⟨r, hri⟩ := sl_idx (show i < R.length by omega)
    have hrw := sl_W_at hB.2.2.2.2.1 hri
    have hat := xe_at_lt (w := w) hri
    have hl := hB'.1
    have rm := xe_room (f := fun x => [ex_key pr x]) hri
    have et := xe_take (f := fun x => [ex_key pr x]) hri
    have er : ([ex_key pr r] : List ay_Row).flatten = ex_key pr r := by simp
    have ekl : (ex_key pr r).length = pr.length := by unfold ex_key; rw [List.length_map]
    rw [er, ekl] at rm
    refine fX5_pick_17 ?_
    rw [nI_clamp (by omega), hB'.2.2.1]
    refine ⟨vp_in_nI hl (by omega), fun q => absurd q (nI_ge (by omega) (by omega)), fun _ => xe_at hB' ?_⟩
    rw [ak_n0]
    refine xe_pick_38 (q := q) (fr := fr) (w := w) (r := r) (pr := pr) (out := ((R.take i).flatMap (fun x => [ex_key pr x])).flatten) (k := ((R.take i).flatMap (fun x => [ex_key pr x])).length) hs (by omega) hP hrw (by omega) (sl_fget hB.2.2.2.2.2 hB.2.2.2.2.1 hri) hcol (by omega) (fun M1 O1 => ?_) pr.length 0 M (by omega) (by simpa [ex_key] using hO)
    refine xe_pick_17 hs hB hls hp hq hRl hP hcol hr hK n (i + 1) M1 (by omega) ?_
    rw [et, List.flatten_append, List.length_append, er]
    exact O1
theorem xe_pick {M : wd_M} {l p w fr ws : Nat} {R : List ay_Row} {pr : List Int32} {K : wd_Z → wd_M → wd_L → Prop} (hd : 1 ≤ d) (hs : s < 32768) (hO : xe_O M0 M s q ws [] 0) (hB : xe_B M0 l p w R) (hls : l ≠ s) (hp : p + R.length * w ≤ q) (hq : q ≤ 600000) (hRl : R.length < 100000) (hP : xe_pr M0 s fr pr) (hcol : ∀ c, c ∈ pr → ∃ j, c = nI j ∧ j < w)
    (hr : q + (R.map (ex_key pr)).flatten.length ≤ 600000)
    (hK : ∀ M', xe_O M0 M' s q pr.length (R.map (ex_key pr)).flatten (R.map (ex_key pr)).length → K z M' L) : wRunV (d, 0, 0) mX5_pick [.ref 628, .int (nI s), .int (nI l)] z M L K := by
  obtain ⟨d, rfl, hd'⟩ := ak_deep hd
  have hP' := xe_pr_fr (M' := M) hP fun c hc => hO.1.1 c (by omega)
  refine fX5_pick_e ?_
  rw [nI_clamp (by omega), hP'.2.1]
  refine ⟨vp_in_nI hs (by omega), vp_in_nI hs (by omega), ?_⟩
  rw [← xe_map] at hr
  exact xe_pick_17 (d := d) hs hB hls hp hq hRl hP hcol hr (fun M' h => hK M' (by rw [← xe_map]; exact h)) R.length 0 _ (by omega) (by simpa using xe_wd (ws' := pr.length) hO)
end XE
