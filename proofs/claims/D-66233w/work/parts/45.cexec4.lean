/-! CONTRACTS of ApplyFree$Executor: unique, rows put into the index, join -/
section XE
variable {d : Nat} {z : wd_Z} {M0 : wd_M} {L : wd_L} {s q : Nat}
/-- keys of rows that lie below q -/
theorem xe_keys {M : wd_M} {t p w b f lb : Nat} {R : List ay_Row} {ls : List Int32} (hB : xe_B M t p w R) (hp : p + R.length * w ≤ 600000) (hb : ix_ar b lb) (hl : sl_at (M b) f ls) (hf : f + ls.length ≤ lb) (hcol : ∀ c, c ∈ ls → ∃ j, c = nI j ∧ j < w) : ∀ i r, R[i]? = some r → ix_key M 638 (p + i * w) b f (ex_key ls r) ∧ (ex_key ls r).length = ls.length := fun i r hi => by
  have hat := xe_at_lt (w := w) hi
  exact ⟨ix_key_of hb hl hf hcol (sl_fget hB.2.2.2.2.2 hB.2.2.2.2.1 hi) (sl_W_at hB.2.2.2.2.1 hi) (by omega), by unfold ex_key; rw [List.length_map]⟩
theorem xe_all_fr {M M' : wd_M} (h : xe_all M) (e : M' 644 = M 644) : xe_all M' := by unfold xe_all at *; rw [e]; exact h
theorem xe_map_id {R : List ay_Row} {w : Nat} (h : sl_W w R) (hw : w ≤ 256) : R.map (ex_key (cp_sp w)) = R := by
  have : R.map (ex_key (cp_sp w)) = R.map id := List.map_congr_left fun r hr => by
    have := h r hr
    rw [ex_key_sp (by omega) (by omega)]
    exact List.take_of_length_le (by omega)
  rw [this, List.map_id]
theorem xe_unique_36 {l p w : Nat} {R : List ay_Row} {K : wd_Z → wd_M → wd_L → Prop} (hd : 2 ≤ d) (hs : s < 32768) (hall : xe_all M0) (hB : xe_B M0 l p w R) (hls : l ≠ s) (hp : p + R.length * w ≤ q) (hq : q ≤ 600000) (hRl : R.length ≤ 8192) (hw : w ≤ 256)
    (hr : q + (sm_once R).flatten.length ≤ 600000) (hK : ∀ M', xe_O M0 M' s q w (sm_once R).flatten (sm_once R).length → K z M' L) :
    ∀ (n i : Nat) (M : wd_M), i + n = R.length → ix_J z M p w 644 0 w (ex_key (cp_sp w)) R i → xe_O M0 M s q w (sm_once (R.take i)).flatten (sm_once (R.take i)).length → wRun (d + 1, 0, 0) mX5_unique 36 [some (.ref 628), some (.int (nI s)), some (.int (nI l)), some (.int (nI i)), none] [] z M L (wQv K)
  | 0, i, M, hi, hJ, hO => by
    have ei : i = R.length := by omega
    subst ei
    have hB' := xe_B_fr hB hls hp hO.1
    rw [List.take_length] at hO
    refine fX5_unique_36 ?_
    have hl := hB'.1
    rw [nI_clamp (by omega), hB'.2.2.1]
    exact ⟨vp_in_nI hl (by omega), fun _ => wQv_i (hK M hO), fun q => absurd (nI_le (Nat.le_refl _) (by omega)) q⟩
  | n + 1, i, M, hi, hJ, hO => by
    have hB' := xe_B_fr hB hls hp hO.1
    obtain ⟨r, hri⟩ := sl_idx (show i < R.length by omega)
    have hrw := sl_W_at hB.2.2.2.2.1 hri
    have hl := hB'.1
    have eKs : ∀ j, ix_Ks (ex_key (cp_sp w)) R j = sm_once (R.take j) := fun j => by
      unfold ix_Ks ix_kl
      rw [xe_map_id (sl_W_sub hB.2.2.2.2.1 fun x hx => List.mem_of_mem_take hx) hw]
    have ekr : ex_key (cp_sp w) r = r := by rw [ex_key_sp (by omega) (by omega), List.take_of_length_le (by omega)]
    have est : (r ∈ sm_once (R.take i) → sm_once (R.take (i + 1)) = sm_once (R.take i)) ∧ (¬ r ∈ sm_once (R.take i) → sm_once (R.take (i + 1)) = sm_once (R.take i) ++ [r]) := by
      rw [sl_take hri, sm_once_snoc]
      exact ⟨fun h => if_pos h, fun h => if_neg h⟩
    have hlen := sm_once_len (R.take i)
    rw [List.length_take] at hlen
    refine fX5_unique_36 ?_
    rw [nI_clamp (by omega), hB'.2.2.1]
    refine ⟨vp_in_nI hl (by omega), fun q => absurd q (nI_ge (by omega) (by omega)), fun _ => ?_⟩
    have h6 : M 631 6 = nI (sm_once (R.take i)).length := by rw [← eKs]; exact hJ.2.1.1
    refine ix_add hd hJ hri hRl hw (Or.inr rfl) fun M1 j J1 hj hold hnew F1 F2 => ?_
    have O1 := xe_O_sc (M' := M1) hO fun c c1 c2 => F1 c (by omega)
    have h61 : M1 631 6 = nI (sm_once (R.take (i + 1))).length := by rw [← eKs]; exact J1.2.1.1
    have hlen1 := sm_once_len (R.take (i + 1))
    rw [List.length_take] at hlen1
    rw [h6, h61, nI_leI (by omega) (by omega), nI_1]
    refine ⟨fun e => ?_, fun e => ?_⟩
    · have hm : r ∈ sm_once (R.take i) := by
        refine Decidable.byContradiction fun h => ?_
        rw [est.2 h, List.length_append] at e
        have e : _ + 1 ≤ _ := e
        omega
      refine xe_unique_36 hd hs hall hB hls hp hq hRl hw hr hK n (i + 1) M1 (by omega) J1 ?_
      rw [est.1 hm]; exact O1
    · have hm : ¬ r ∈ sm_once (R.take i) := fun h => e (by rw [est.1 h]; exact Nat.le_refl _)
      have est := est.2 hm
      have rm : (sm_once (R.take i)).flatten.length + w ≤ (sm_once R).flatten.length := by
        obtain ⟨c, hc⟩ := sm_once_app (R.take (i + 1)) (R.drop (i + 1))
        rw [List.take_append_drop] at hc
        rw [hc, est]
        simp only [List.flatten_append, List.length_append]
        have : ([r] : List ay_Row).flatten.length = w := by simp [hrw]
        omega
      refine xe_copy (f := 0) (by omega) O1 (xe_B_fr hB hls hp O1.1) (by omega) hri (by omega) (by omega) fun M2 O2 F3 => ?_
      rw [List.drop_zero] at O2
      rw [nI_clamp (by omega), O2.2.2.1, nI_1]
      refine ⟨vp_in_nI hs (by omega), vp_in_nI hs (by omega), ?_⟩
      have O3 := xe_O_inc O2
      have hB3 := xe_B_fr hB hls hp O3.1
      have hall3 := xe_all_fr hall O3.1.2.2.2.2.2.2.2.1
      refine xe_unique_36 hd hs hall hB hls hp hq hRl hw hr hK n (i + 1) _ (by omega) (ix_J_mv J1 (fun c c1 c2 => by rw [ak_up_cell (by omega), F3 c (by omega) (by omega)]) fun i' r' hi' => (xe_keys hB3 (by omega) (Or.inr (Or.inr ⟨rfl, rfl⟩)) (xe_all_n hall3 hw) (by rw [cp_sp_len]; omega) (cp_sp_mem (Nat.le_refl _)) i' r' hi').1) ?_
      rw [est, List.flatten_append, List.length_append]
      simpa using O3
theorem xe_unique {M : wd_M} {l p w : Nat} {R : List ay_Row} {K : wd_Z → wd_M → wd_L → Prop} (hd : 3 ≤ d) (hs : s < 32768) (hO : xe_O M0 M s q w [] 0) (hall : xe_all M0) (hB : xe_B M0 l p w R) (hls : l ≠ s) (hp : p + R.length * w ≤ q) (hq : q ≤ 600000) (hRl : R.length ≤ 8192) (hw : w ≤ 256)
    (hr : q + (sm_once R).flatten.length ≤ 600000) (hK : ∀ M', xe_O M0 M' s q w (sm_once R).flatten (sm_once R).length → K (ix_z z 644) M' L) : wRunV (d, 0, 0) mX5_unique [.ref 628, .int (nI s), .int (nI l)] z M L K := by
  obtain ⟨d, rfl, hd'⟩ := ak_deep hd
  have hB' := xe_B_fr hB hls hp hO.1
  have hl := hB'.1
  have hall' := xe_all_fr hall hO.1.2.2.2.2.2.2.2.1
  refine fX5_unique_e ?_
  rw [nI_clamp (by omega), hB'.2.1, hB'.2.2.2.1, ak_n0]
  refine ⟨vp_in_nI hl (by omega), vp_in_nI hl (by omega), vp_in_nI hl (by omega), ?_⟩
  refine ix_begin (kf := ex_key (cp_sp w)) (R := R) (Or.inr rfl) (fun i r hi => ?_) fun M1 J1 F1 => ?_
  · have := xe_keys (f := 0) hB' (by omega) (Or.inr (Or.inr ⟨rfl, rfl⟩)) (xe_all_n hall' hw) (by rw [cp_sp_len]; omega) (cp_sp_mem (Nat.le_refl _)) i r hi
    rw [cp_sp_len] at this
    exact this
  · exact xe_unique_36 (d := d) (z := ix_z z 644) hd' hs hall hB hls hp hq hRl hw hr hK R.length 0 M1 (by omega) J1 (by simpa [sm_once] using xe_O_sc (M' := M1) hO fun c c1 c2 => F1 c (by omega) (by omega))
/-- all rows of the right into the index -/
theorem xe_fill {p w n b f : Nat} {R : List ay_Row} {ls : List Int32} {P : Nat → wd_M → Prop}
    (step : ∀ i M, i < R.length → ix_J z M p w b f n (ex_key ls) R i → (∀ M', ix_J z M' p w b f n (ex_key ls) R (i + 1) → (∀ c, c < 631 ∨ 637 < c → M' c = M c) → P (i + 1) M') → P i M) : ∀ (k i : Nat) (M : wd_M), i + k = R.length → ix_J z M p w b f n (ex_key ls) R i → (∀ M', ix_J z M' p w b f n (ex_key ls) R R.length → (∀ c, c < 631 ∨ 637 < c → M' c = M c) → P R.length M') → P i M
  | 0, i, M, hi, hJ, hK => by
    have ei : i = R.length := by omega
    subst ei
    exact hK M hJ fun _ _ => rfl
  | k + 1, i, M, hi, hJ, hK => step i M (by omega) hJ fun M' J' F' => xe_fill step k (i + 1) M' (by omega) J' fun M'' J'' F'' => hK M'' J'' fun c hc => (F'' c hc).trans (F' c hc)
end XE
