/-! CONTRACTS of ApplyFree$Executor: top -/
section XE
variable {d : Nat} {z : wd_Z} {M0 : wd_M} {L : wd_L} {s q : Nat}
/-- what top has at hand -/
def xe_tp (M0 : wd_M) (s q l p w n m : Nat) (R : List ay_Row) (od : List Nat) : Prop :=
  s < 32768 ∧ xe_B M0 l p w R ∧ l ≠ s ∧ p + R.length * w ≤ q ∧ q ≤ 600000 ∧ R.length ≤ 8192 ∧ w < 100000 ∧ n ≤ w ∧ M0 19 s = nI n ∧ M0 21 s = nI m ∧ m < 100000 ∧ xe_srt R od
theorem xe_od {l p w : Nat} {n m : Nat} {R : List ay_Row} {od : List Nat} {M : wd_M} (h : xe_tp M0 s q l p w n m R od) (ho : sl_at (M 646) 0 (xe_nl od)) {i : Nat} {r : ay_Row} (hr : (sm_srt R)[i]? = some r) : ∃ o, M 646 i = nI o ∧ R[o]? = some r := by
  obtain ⟨-, -, -, -, -, -, -, -, -, -, -, h1, h2⟩ := h
  rw [← h2, List.getElem?_map] at hr
  cases e : od[i]? with
  | none => rw [e] at hr; cases hr
  | some o =>
    rw [e] at hr
    have hr : some (R.getD o []) = some r := hr
    have ho1 : o < R.length := List.mem_range.mp (h1.mem_iff.mp (List.mem_of_getElem? e))
    refine ⟨o, ?_, ?_⟩
    · have := ho i (nI o) (by unfold xe_nl; rw [List.getElem?_map, e]; rfl)
      rwa [Nat.zero_add] at this
    · rw [List.getElem?_eq_getElem ho1]
      rw [List.getD_eq_getElem?_getD, List.getElem?_eq_getElem ho1] at hr
      exact hr
theorem xe_srt_len {R : List ay_Row} : (sm_srt R).length = R.length := (sm_srt_perm R).length_eq
/-- whether two rows are alike in the first columns -/
theorem xe_top_36 {l p w n m i mn : Nat} {R : List ay_Row} {od : List Nat} {x y : ay_Row} {out : List Int32} {k : Nat} {K : wd_Z → wd_M → wd_L → Prop} (ht : xe_tp M0 s q l p w n m R od) (hx : (sm_srt R)[i + 1]? = some x) (hy : (sm_srt R)[i]? = some y)
    (hc : ∀ M, xe_O M0 M s q w out k → sl_at (M 646) 0 (xe_nl od) → wRun (d + 1, 0, 0) mX5_top 113 [some (.ref 628), some (.int (nI s)), some (.int (nI l)), some (.int (nI mn)), some (.int (nI (i + 1))), some (.int (if x.take n = y.take n then 1 else 0)), none] [] z M L (wQv K)) :
    ∀ (c0 c : Nat) (M : wd_M), c + c0 = n → xe_O M0 M s q w out k → sl_at (M 646) 0 (xe_nl od) → wRun (d + 1, 0, 0) mX5_top 36 [some (.ref 628), some (.int (nI s)), some (.int (nI l)), some (.int (nI mn)), some (.int (nI (i + 1))), some (.int (if x.take c = y.take c then 1 else 0)), some (.int (nI c))] [] z M L (wQv K)
  | 0, c, M, hcn, hO, ho => by
    obtain ⟨hs, hB, hls, hp, hq, hRl, hw, hn, h19, h21, hm, hsr⟩ := id ht
    have ec : c = n := by omega
    subst ec
    refine fX5_top_36 ?_
    rw [nI_clamp (show s < 2 ^ 31 by omega), hO.1.1 19 (by omega), h19]
    exact ⟨vp_in_nI hs (by omega), fun _ => hc M hO ho, fun q => absurd (nI_le (Nat.le_refl _) (by omega)) q⟩
  | c0 + 1, c, M, hcn, hO, ho => by
    obtain ⟨hs, hB, hls, hp, hq, hRl, hw, hn, h19, h21, hm, hsr⟩ := id ht
    have hB' := xe_B_fr hB hls hp hO.1
    obtain ⟨o1, g1, g2⟩ := xe_od ht ho hx
    obtain ⟨o2, g3, g4⟩ := xe_od ht ho hy
    have hil := (List.getElem?_eq_some_iff.mp hx).1
    rw [xe_srt_len] at hil
    have w1 := sl_W_at hB.2.2.2.2.1 g2
    have w2 := sl_W_at hB.2.2.2.2.1 g4
    have a1 := xe_at_lt (w := w) g2
    have a2 := xe_at_lt (w := w) g4
    refine fX5_top_36 ?_
    rw [nI_clamp (show s < 2 ^ 31 by omega), hO.1.1 19 (by omega), h19]
    refine ⟨vp_in_nI hs (by omega), fun q => absurd q (nI_ge (by omega) (by omega)), fun _ => ⟨fun e => ?_, fun e => ?_⟩⟩
    · have ne : ¬ x.take c = y.take c := fun h => by rw [if_pos h] at e; exact absurd e (by decide)
      have ne' : ¬ x.take n = y.take n := fun h => ne (by
        have := congrArg (List.take c) h
        rwa [List.take_take, List.take_take, Nat.min_eq_left (by omega)] at this)
      have h := hc M hO ho
      rw [if_neg ne'] at h
      rw [if_neg ne]; exact h
    · have eq : x.take c = y.take c := Decidable.byContradiction fun h => e (by rw [if_neg h])
      have ep : nI (i + 1) - 1 = nI i := nI_pred i
      rw [nI_clamp (show i + 1 < 2 ^ 31 by omega), g1, ep, nI_clamp (show i < 2 ^ 31 by omega)]
      refine ⟨vp_in_nI (by omega) (by omega), xe_at hB' ?_⟩
      rw [g3, nI_add, nI_clamp (show p + o1 * w + c < 2 ^ 31 by omega)]
      refine ⟨vp_in_nI (by omega) (by omega), vp_in_nI (by omega) (by omega), xe_at hB' ?_⟩
      rw [nI_add, nI_clamp (show p + o2 * w + c < 2 ^ 31 by omega), sl_get (sl_fget hB'.2.2.2.2.2 hB'.2.2.2.2.1 g2) (show c < x.length by omega), sl_get (sl_fget hB'.2.2.2.2.2 hB'.2.2.2.2.1 g4) (show c < y.length by omega)]
      have tk : (x.take (c + 1) = y.take (c + 1)) ↔ x[c]'(by omega) = y[c]'(by omega) := by
        rw [sl_take (List.getElem?_eq_getElem (show c < x.length by omega)), sl_take (List.getElem?_eq_getElem (show c < y.length by omega)), eq]
        constructor
        · intro h
          have := List.append_cancel_left h
          injection this
        · intro h; rw [h]
      refine ⟨vp_in_nI (by omega) (by omega), fun e => fX5_top_105 ?_, fun e => fX5_top_105 ?_⟩
      · have := xe_top_36 ht hx hy hc c0 (c + 1) M (by omega) hO ho
        rw [if_pos (tk.mpr e)] at this
        rw [nI_1]; exact this
      · have := xe_top_36 ht hx hy hc c0 (c + 1) M (by omega) hO ho
        rw [if_neg (fun h => e (tk.mp h))] at this
        rw [nI_1]; exact this
theorem xe_top_10 {l p w n m : Nat} {R : List ay_Row} {od : List Nat} {K : wd_Z → wd_M → wd_L → Prop} (hd : 1 ≤ d) (ht : xe_tp M0 s q l p w n m R od) (hr : q + (ex_top n m none 0 (sm_srt R)).flatten.length ≤ 600000)
    (hK : ∀ M', xe_O M0 M' s q w (ex_top n m none 0 (sm_srt R)).flatten (ex_top n m none 0 (sm_srt R)).length → K z M' L) :
    ∀ (k i mn : Nat) (M : wd_M) (O : List ay_Row) (pv : Option ay_Row), i + k = R.length → (i = 0 → pv = none) → (∀ j, i = j + 1 → pv = (sm_srt R)[j]?) → mn ≤ i → O ++ ex_top n m pv mn ((sm_srt R).drop i) = ex_top n m none 0 (sm_srt R) → xe_O M0 M s q w O.flatten O.length → sl_at (M 646) 0 (xe_nl od) →
      wRun (d + 1, 0, 0) mX5_top 10 [some (.ref 628), some (.int (nI s)), some (.int (nI l)), some (.int (nI mn)), some (.int (nI i)), none, none] [] z M L (wQv K)
  | 0, i, mn, M, O, pv, hi, _, _, _, he, hO, ho => by
    obtain ⟨hs, hB, hls, hp, hq, hRl, hw, hn, h19, h21, hm, hsr⟩ := id ht
    have hB' := xe_B_fr hB hls hp hO.1
    have hl := hB'.1
    rw [List.drop_of_length_le (by rw [xe_srt_len]; omega)] at he
    have e0 : ex_top n m pv mn [] = [] := by unfold ex_top; rfl
    rw [e0, List.append_nil] at he
    refine fX5_top_10 ?_
    rw [nI_clamp (show l < 2 ^ 31 by omega), hB'.2.2.1]
    exact ⟨vp_in_nI hl (by omega), fun _ => wQv_i (hK M (by rw [← he]; exact hO)), fun q => absurd (nI_le (by omega) (by omega)) q⟩
  | k + 1, i, mn, M, O, pv, hi, hpv0, hpv1, hmn, he, hO, ho => by
    obtain ⟨hs, hB, hls, hp, hq, hRl, hw, hn, h19, h21, hm, hsr⟩ := id ht
    have hB' := xe_B_fr hB hls hp hO.1
    have hl := hB'.1
    obtain ⟨x, hx⟩ := sl_idx (show i < (sm_srt R).length by rw [xe_srt_len]; omega)
    obtain ⟨o1, g1, g2⟩ := xe_od ht ho hx
    have w1 := sl_W_at hB.2.2.2.2.1 g2
    have edrop : (sm_srt R).drop i = x :: (sm_srt R).drop (i + 1) := by
      have hk := (List.getElem?_eq_some_iff.mp hx).1
      have : x = (sm_srt R)[i] := by rw [List.getElem?_eq_getElem hk] at hx; exact (Option.some.inj hx).symm
      rw [this, ← List.drop_eq_getElem_cons hk]
    generalize hmn' : (if pv.map (List.take n) = some (x.take n) then mn + 1 else 0) = mn'
    have eT : ex_top n m pv mn ((sm_srt R).drop i) = (if mn' < m then [x] else []) ++ ex_top n m (some x) mn' ((sm_srt R).drop (i + 1)) := by
      rw [edrop]
      rw [ex_top]
      rw [hmn']
      split <;> simp
    rw [eT] at he
    have hmn1 : mn' ≤ i + 1 := by rw [← hmn']; split <;> omega
    have c162 : ∀ {M' : wd_M} {O' : List ay_Row}, O' ++ ex_top n m (some x) mn' ((sm_srt R).drop (i + 1)) = ex_top n m none 0 (sm_srt R) → xe_O M0 M' s q w O'.flatten O'.length → sl_at (M' 646) 0 (xe_nl od) → wRun (d + 1, 0, 0) mX5_top 162 [some (.ref 628), some (.int (nI s)), some (.int (nI l)), some (.int (nI mn')), some (.int (nI i)), none, none] [] z M' L (wQv K) := fun {M' O'} e1 e2 e3 => by
      refine fX5_top_162 ?_
      rw [nI_1]
      exact xe_top_10 hd ht hr hK k (i + 1) mn' M' O' (some x) (by omega) (fun h => by omega) (fun j hj => by rw [show j = i by omega, hx]) hmn1 e1 e2 e3
    have c125 : ∀ {M' : wd_M}, xe_O M0 M' s q w O.flatten O.length → sl_at (M' 646) 0 (xe_nl od) → wRun (d + 1, 0, 0) mX5_top 125 [some (.ref 628), some (.int (nI s)), some (.int (nI l)), none, some (.int (nI i)), none, none] [.int (nI mn')] z M' L (wQv K) := fun {M'} e2 e3 => by
      refine fX5_top_125 ?_
      obtain ⟨o1', g1', g2'⟩ := xe_od ht e3 hx
      rw [nI_clamp (show s < 2 ^ 31 by omega), e2.1.1 21 (by omega), h21, nI_leI (by omega) (by omega), nI_clamp (show i < 2 ^ 31 by omega), g1']
      refine ⟨vp_in_nI hs (by omega), fun e => ?_, fun e => ⟨vp_in_nI (by omega) (by omega), ?_⟩⟩
      · rw [if_neg (by omega), List.nil_append] at he
        exact c162 he e2 e3
      · rw [if_pos (by omega), ← List.append_assoc] at he
        have rm : O.flatten.length + w ≤ (ex_top n m none 0 (sm_srt R)).flatten.length := by
          rw [← he]
          simp only [List.flatten_append, List.length_append]
          have : ([x] : List ay_Row).flatten.length = w := by simp [w1]
          omega
        rw [ak_n0]
        refine xe_copy (f := 0) hd e2 (xe_B_fr hB hls hp e2.1) (by omega) g2' (by omega) (by omega) fun M2 O2 F2 => ?_
        rw [List.drop_zero] at O2
        rw [O2.2.2.1, nI_1]
        refine ⟨vp_in_nI hs (by omega), vp_in_nI hs (by omega), c162 he ?_ ?_⟩
        · have := xe_O_inc O2
          rw [List.flatten_append, List.length_append]
          simpa using this
        · rw [ak_up_cell (by omega), F2 646 (by omega) (by omega)]; exact e3
    refine fX5_top_10 ?_
    rw [nI_clamp (show l < 2 ^ 31 by omega), hB'.2.2.1]
    refine ⟨vp_in_nI hl (by omega), fun q => absurd q (nI_ge (by omega) (by omega)), fun _ => ?_⟩
    cases i with
    | zero =>
      have e0 := hpv0 rfl
      have m0 : mn' = 0 := by rw [← hmn', e0]; rfl
      refine ⟨fun _ => fX5_top_31 ?_, fun q => absurd (nI_le (Nat.le_refl 0) (by omega)) q⟩
      refine fX5_top_36 ?_
      have c113 : wRun (d + 1, 0, 0) mX5_top 113 [some (.ref 628), some (.int (nI s)), some (.int (nI l)), some (.int (nI mn)), some (.int (nI 0)), some (.int 0), none] [] z M L (wQv K) := by
        refine fX5_top_113 ⟨fun _ => ?_, fun q => absurd rfl q⟩
        have := c125 hO ho
        rw [m0] at this
        exact this
      rw [nI_clamp (show s < 2 ^ 31 by omega)]
      exact ⟨vp_in_nI hs (by omega), fun _ => c113, fun _ => ⟨fun _ => c113, fun q => absurd rfl q⟩⟩
    | succ i =>
      have ep := hpv1 i rfl
      obtain ⟨y, hy⟩ := sl_idx (show i < (sm_srt R).length by rw [xe_srt_len]; omega)
      rw [hy] at ep
      refine ⟨fun q => absurd q (by rw [ak_n0]; exact nI_ge (by omega) (by omega)), fun _ => fX5_top_31 ?_⟩
      have := xe_top_36 (d := d) (z := z) (L := L) (mn := mn) (out := O.flatten) (k := O.length) (K := K) ht hx hy (fun M' e2 e3 => ?_) n 0 M (by omega) hO ho
      · rw [List.take_zero, List.take_zero, if_pos rfl] at this
        exact this
      · refine fX5_top_113 ⟨fun e => ?_, fun e => ?_⟩
        · have ne : ¬ x.take n = y.take n := fun h => by rw [if_pos h] at e; exact absurd e (by decide)
          have m0 : mn' = 0 := by
            rw [← hmn', ep]
            exact if_neg fun h => ne (by have : some (y.take n) = some (x.take n) := h; exact (Option.some.inj this).symm)
          have := c125 e2 e3
          rw [m0] at this
          exact this
        · have eq : x.take n = y.take n := Decidable.byContradiction fun h => e (by rw [if_neg h])
          have m0 : mn' = mn + 1 := by
            rw [← hmn', ep]
            exact if_pos (by show some (y.take n) = _; rw [eq])
          have := c125 e2 e3
          rw [m0] at this
          rw [nI_1]; exact this
theorem xe_top {M : wd_M} {l p w n m : Nat} {R : List ay_Row} {K : wd_Z → wd_M → wd_L → Prop} (hd : 4 ≤ d) (hs : s < 32768) (hO : xe_O M0 M s q w [] 0) (hB : xe_B M0 l p w R) (hls : l ≠ s) (hp : p + R.length * w ≤ q) (hq : q ≤ 600000) (hRl : R.length ≤ 8192) (hw : w < 100000) (hn : n ≤ w) (h19 : M0 19 s = nI n) (h21 : M0 21 s = nI m) (hm : m < 100000)
    (hr : q + (ex_top n m none 0 (sm_srt R)).flatten.length ≤ 600000) (hK : ∀ M', xe_O M0 M' s q w (ex_top n m none 0 (sm_srt R)).flatten (ex_top n m none 0 (sm_srt R)).length → K z M' L) : wRunV (d, 0, 0) mX5_top [.ref 628, .int (nI s), .int (nI l)] z M L K := by
  obtain ⟨d, rfl, hd'⟩ := ak_deep hd
  have hB' := xe_B_fr hB hls hp hO.1
  refine fX5_top_e (xe_sort hd' hB' (by omega) hw hRl fun M1 od s1 s2 s3 => ?_)
  rw [ak_n0]
  have O1 := xe_O_sc (M' := M1) hO fun c c1 c2 => s1 c (by omega) (by omega)
  exact xe_top_10 (d := d) (by omega) ⟨hs, hB, hls, hp, hq, hRl, hw, hn, h19, h21, hm, s2⟩ hr hK R.length 0 0 M1 [] none (by omega) (fun _ => rfl) (fun j hj => by omega) (by omega) rfl (by simpa using O1) s3
end XE
