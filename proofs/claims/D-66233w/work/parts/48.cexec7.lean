/-! CONTRACTS of ApplyFree$Executor: apart -/
section XE
variable {d : Nat} {z : wd_Z} {M0 : wd_M} {L : wd_L} {s q : Nat}
/-- the index with the counts of what is left -/
def xe_ap (z : wd_Z) (M : wd_M) (p w : Nat) (B Rm : List ay_Row) : Prop := ix_own z M p w 644 0 w ∧ ix_I M (sm_once B) ∧ (∀ j r, (sm_once B)[j]? = some r → ∃ i, M 634 j = nI i ∧ B[i]? = some r) ∧ (∀ j r, (sm_once B)[j]? = some r → M 636 j = nI (Rm.count r)) ∧ (∀ r, r ∈ Rm → r ∈ B) ∧ Rm.length ≤ 8192
theorem xe_ap_mv {M M' : wd_M} {p w : Nat} {B Rm : List ay_Row} (h : xe_ap z M p w B Rm) (e : ∀ c, 631 ≤ c → c ≤ 637 → M' c = M c) : xe_ap z M' p w B Rm := by
  obtain ⟨⟨o1, o2, o3, o4, o5, o6⟩, hI, hF, hc, hm, hl⟩ := h
  have e1 := e 631 (by omega) (by omega)
  refine ⟨⟨o1, o2, by rw [e1]; exact o3, by rw [e1]; exact o4, by rw [e1]; exact o5, by rw [e1]; exact o6⟩, ?_, ?_, ?_, hm, hl⟩
  · unfold ix_I
    rw [e1, e 632 (by omega) (by omega), e 633 (by omega) (by omega)]
    exact hI
  · rw [e 634 (by omega) (by omega)]
    exact hF
  · rw [e 636 (by omega) (by omega)]
    exact hc
theorem ex_apart_c {sh : Bool} {x : ay_Row} {A R : List ay_Row} : ex_apart sh (x :: A) R = if x ∈ R then (if sh then x :: ex_apart sh A (R.erase x) else ex_apart sh A (R.erase x)) else (if sh then ex_apart sh A R else x :: ex_apart sh A R) := by
  rw [ex_apart]
theorem ex_apart_sub {sh : Bool} : ∀ {A R : List ay_Row} {r : ay_Row}, r ∈ ex_apart sh A R → r ∈ A
  | [], _, _, h => by unfold ex_apart at h; cases h
  | x :: A, R, r, h => by
    unfold ex_apart at h
    split at h
    · split at h
      · rcases List.mem_cons.mp h with e | e
        · rw [e]; exact List.mem_cons_self
        · exact List.mem_cons_of_mem _ (ex_apart_sub e)
      · exact List.mem_cons_of_mem _ (ex_apart_sub h)
    · split at h
      · exact List.mem_cons_of_mem _ (ex_apart_sub h)
      · rcases List.mem_cons.mp h with e | e
        · rw [e]; exact List.mem_cons_self
        · exact List.mem_cons_of_mem _ (ex_apart_sub e)
theorem xe_apart_67 {l r p1 p2 w : Nat} {A B : List ay_Row} {sh : Bool} {K : wd_Z → wd_M → wd_L → Prop} (hd : 2 ≤ d) (hs : s < 32768) (hop : M0 15 s = nI (if sh then 9 else 8)) (hall : xe_all M0) (hA : xe_B M0 l p1 w A) (hB : xe_B M0 r p2 w B) (hls : l ≠ s) (hrs : r ≠ s) (hp1 : p1 + A.length * w ≤ q) (hp2 : p2 + B.length * w ≤ q) (hq : q ≤ 600000) (hAl : A.length < 100000) (hBl : B.length ≤ 8192) (hw : w ≤ 256)
    (hr : q + (ex_apart sh A B).flatten.length ≤ 600000) (hK : ∀ M', xe_O M0 M' s q w (ex_apart sh A B).flatten (ex_apart sh A B).length → K z M' L) :
    ∀ (n i : Nat) (M : wd_M) (O Rm : List ay_Row), i + n = A.length → ex_apart sh A B = O ++ ex_apart sh (A.drop i) Rm → xe_ap z M p2 w B Rm → xe_O M0 M s q w O.flatten O.length →
      wRun (d + 1, 0, 0) mX5_apart 67 [some (.ref 628), some (.int (nI s)), some (.int (nI l)), none, some (.int (nI i)), none, none] [] z M L (wQv K)
  | 0, i, M, O, Rm, hi, he, hX, hO => by
    have ei : i = A.length := by omega
    subst ei
    have hA' := xe_B_fr hA hls hp1 hO.1
    have e0 : ex_apart sh A B = O := by rw [he, List.drop_of_length_le (Nat.le_refl _)]; simp [ex_apart]
    refine fX5_apart_67 ?_
    have hl := hA'.1
    rw [nI_clamp (show l < 2 ^ 31 by omega), hA'.2.2.1]
    exact ⟨vp_in_nI hl (by omega), fun _ => wQv_i (hK M (by rw [e0]; exact hO)), fun q => absurd (nI_le (Nat.le_refl _) (by omega)) q⟩
  | n + 1, i, M, O, Rm, hi, he, hX, hO => by
    have hA' := xe_B_fr hA hls hp1 hO.1
    have hB' := xe_B_fr hB hrs hp2 hO.1
    have hall' := xe_all_fr hall hO.1.2.2.2.2.2.2.2.1
    obtain ⟨x, hxi⟩ := sl_idx (show i < A.length by omega)
    have hxw := sl_W_at hA.2.2.2.2.1 hxi
    have hat := xe_at_lt (w := w) hxi
    have hl := hA'.1
    have edrop : A.drop i = x :: A.drop (i + 1) := by
      have hk := (List.getElem?_eq_some_iff.mp hxi).1
      have : x = A[i] := by rw [List.getElem?_eq_getElem hk] at hxi; exact (Option.some.inj hxi).symm
      rw [this, ← List.drop_eq_getElem_cons hk]
    have h15 : M 15 s = nI (if sh then 9 else 8) := by rw [hO.1.1 15 (by omega)]; exact hop
    rw [edrop, ex_apart_c] at he
    obtain ⟨hown, hI, hF, hcnt, hsub, hRl⟩ := id hX
    -- to the next row
    have c189 : ∀ {M' : wd_M} {O' Rm' : List ay_Row}, ex_apart sh A B = O' ++ ex_apart sh (A.drop (i + 1)) Rm' → xe_ap z M' p2 w B Rm' → xe_O M0 M' s q w O'.flatten O'.length → wRun (d + 1, 0, 0) mX5_apart 189 [some (.ref 628), some (.int (nI s)), some (.int (nI l)), none, some (.int (nI i)), none, none] [] z M' L (wQv K) := fun {M' O' Rm'} e1 e2 e3 => by
      refine fX5_apart_189 ?_
      rw [nI_1]
      exact xe_apart_67 hd hs hop hall hA hB hls hrs hp1 hp2 hq hAl hBl hw hr hK n (i + 1) M' O' Rm' (by omega) e1 e2 e3
    -- kept or not
    have c168 : ∀ {M' : wd_M} {Rm' : List ay_Row} {bo : Bool}, ex_apart sh A B = O ++ (if bo = sh then [x] else []) ++ ex_apart sh (A.drop (i + 1)) Rm' → xe_ap z M' p2 w B Rm' → xe_O M0 M' s q w O.flatten O.length → wRun (d + 1, 0, 0) mX5_apart 147 [some (.ref 628), some (.int (nI s)), some (.int (nI l)), none, some (.int (nI i)), none, some (.int (if bo then 1 else 0))] [] z M' L (wQv K) := fun {M' Rm' bo} e1 e2 e3 => by
      have h15' : M' 15 s = nI (if sh then 9 else 8) := by rw [e3.1.1 15 (by omega)]; exact hop
      have c : wRun (d + 1, 0, 0) mX5_apart 168 [some (.ref 628), some (.int (nI s)), some (.int (nI l)), none, some (.int (nI i)), none, none] [.int (if sh then 1 else 0), .int (if bo then 1 else 0)] z M' L (wQv K) := by
        refine fX5_apart_168 ⟨fun e => ?_, fun e => ?_⟩
        · have eb : bo = sh := by cases bo <;> cases sh <;> first | rfl | (exact absurd e (by decide))
          rw [if_pos eb] at e1
          have rm : O.flatten.length + w ≤ (ex_apart sh A B).flatten.length := by
            rw [e1]
            simp only [List.flatten_append, List.length_append]
            have : ([x] : List ay_Row).flatten.length = w := by simp [hxw]
            omega
          rw [ak_n0]
          refine xe_copy (f := 0) (by omega) e3 (xe_B_fr hA hls hp1 e3.1) (by omega) hxi (by omega) (by omega) fun M2 O2 F2 => ?_
          rw [List.drop_zero] at O2
          rw [nI_clamp (show s < 2 ^ 31 by omega), O2.2.2.1, nI_1]
          refine ⟨vp_in_nI hs (by omega), vp_in_nI hs (by omega), c189 (O' := O ++ [x]) e1 (xe_ap_mv e2 fun c c1 c2 => by rw [ak_up_cell (by omega), F2 c (by omega) (by omega)]) ?_⟩
          have := xe_O_inc O2
          rw [List.flatten_append, List.length_append]
          simpa using this
        · have eb : ¬ bo = sh := fun h => e (by rw [h])
          rw [if_neg eb, List.append_nil] at e1
          exact c189 e1 e2 e3
      refine fX5_apart_147 ?_
      rw [nI_clamp (show s < 2 ^ 31 by omega), h15']
      refine ⟨vp_in_nI hs (by omega), fun e => ?_, fun e => ?_⟩
      · have es : sh = true := by cases sh with
          | true => rfl
          | false => exact absurd e (by decide)
        rw [es] at c; exact c
      · have es : sh = false := by cases sh with
          | true => exact absurd rfl e
          | false => rfl
        rw [es] at c; exact c
    -- both sides have it
    have hboth : ∀ {j : Nat}, (sm_once B)[j]? = some x → x ∈ Rm → wRun (d + 1, 0, 0) mX5_apart 126 [some (.ref 628), some (.int (nI s)), some (.int (nI l)), none, some (.int (nI i)), some (.int (nI j)), none] [.int 1] z M L (wQv K) := fun {j} hj hxR => by
      have hjl := (List.getElem?_eq_some_iff.mp hj).1
      have hol := sm_once_len B
      have hpos := List.count_pos_iff.mpr hxR
      refine fX5_apart_126 ⟨fun e => absurd e (by decide), fun _ => ?_⟩
      have ep : nI (Rm.count x) - 1 = nI (Rm.count x - 1) := by rw [ak_n1, pk_sub hpos]
      rw [nI_clamp (show j < 2 ^ 31 by omega), hcnt j x hj, ep]
      refine ⟨vp_in_nI (by omega) (by omega), vp_in_nI (by omega) (by omega), ?_⟩
      refine c168 (Rm' := Rm.erase x) (bo := true) ?_ ⟨?_, ?_, ?_, ?_, ?_, ?_⟩ (xe_O_sc hO fun c c1 c2 => ak_up_cell (by omega))
      · rw [he, if_pos hxR]
        cases sh <;> simp
      · obtain ⟨o1, o2, o3, o4, o5, o6⟩ := hown
        exact ⟨o1, o2, by rw [ak_up_cell (by omega)]; exact o3, by rw [ak_up_cell (by omega)]; exact o4, by rw [ak_up_cell (by omega)]; exact o5, by rw [ak_up_cell (by omega)]; exact o6⟩
      · unfold ix_I
        rw [ak_up_cell (by omega), ak_up_cell (by omega), ak_up_cell (by omega)]; exact hI
      · rw [ak_up_cell (by omega)]; exact hF
      · intro j' r' hj'
        by_cases e : j' = j
        · subst e
          rw [hj] at hj'
          have er : x = r' := Option.some.inj hj'
          rw [ak_up_same, ← er, List.count_erase_self]
        · have ne : r' ≠ x := fun er => by
            rw [er] at hj'
            have := (List.getElem?_inj (i := j) (j := j') hjl (sm_once_nodup B)).mp (by rw [hj, hj'])
            exact e this.symm
          rw [ak_up_ne e, List.count_erase_of_ne ne]
          exact hcnt j' r' hj'
      · exact fun r' hr' => hsub r' (List.mem_of_mem_erase hr')
      · exact Nat.le_trans (List.length_erase_le) hRl
    have hnone : ∀ {v : Int32}, x ∉ Rm → wRun (d + 1, 0, 0) mX5_apart 125 [some (.ref 628), some (.int (nI s)), some (.int (nI l)), none, some (.int (nI i)), some (.int v), none] [] z M L (wQv K) := fun {v} hxR => by
      refine fX5_apart_125 (fX5_apart_126 ⟨fun _ => ?_, fun e => absurd rfl e⟩)
      refine c168 (Rm' := Rm) (bo := false) ?_ hX hO
      rw [he, if_neg hxR]
      cases sh <;> simp
    refine fX5_apart_67 ?_
    rw [nI_clamp (show l < 2 ^ 31 by omega), hA'.2.2.1]
    refine ⟨vp_in_nI hl (by omega), fun q => absurd q (nI_ge (by omega) (by omega)), fun _ => xe_at hA' ?_⟩
    have ek : ∀ {y : ay_Row}, y.length = w → ex_key (cp_sp w) y = y := fun {y} hy => by rw [ex_key_sp (by omega) (by omega), List.take_of_length_le (by omega)]
    have kx : ix_key M 638 (p1 + i * w) 644 0 x := by
      have := ix_key_of (x := p1 + i * w) (w := w) (Or.inr (Or.inr ⟨rfl, rfl⟩)) (xe_all_n hall' hw) (by rw [cp_sp_len]; omega) (cp_sp_mem (Nat.le_refl _)) (sl_fget hA'.2.2.2.2.2 hA'.2.2.2.2.1 hxi) hxw (by omega)
      rw [ek hxw] at this
      exact this
    have hol := sm_once_len B
    have hFF : ix_F M p2 w 644 0 w (sm_once B) := fun j y hj => by
      obtain ⟨i', i1, i2⟩ := hF j y hj
      have hyw := sl_W_at hB.2.2.2.2.1 i2
      have := xe_keys (f := 0) hB' (by omega) (Or.inr (Or.inr ⟨rfl, rfl⟩)) (xe_all_n hall' hw) (by rw [cp_sp_len]; omega) (cp_sp_mem (Nat.le_refl _)) i' y i2
      rw [ek hyw] at this
      exact ⟨hyw, i', i1, this.1⟩
    rw [ak_n0]
    refine ix_find (by omega) (by rw [hxw]; exact hown) hI (by rw [hxw]; exact hFF) kx (by omega) (by omega) (fun j hj => ?_) (fun hno => ?_)
    · have hjl := (List.getElem?_eq_some_iff.mp hj).1
      have hcl := List.count_le_length (a := x) (l := Rm)
      rw [nI_clamp (show j < 2 ^ 31 by omega), hcnt j x hj]
      refine ⟨fun e => absurd e (nI_pos (by omega)), fun _ => ⟨vp_in_nI (by omega) (by omega), fun e => hnone ?_, fun e => hboth hj ?_⟩⟩
      · rw [nI_leI (by omega) (by omega)] at e
        exact List.count_eq_zero.mp (by omega)
      · rw [nI_leI (by omega) (by omega)] at e
        exact List.count_pos_iff.mp (by omega)
    · have hxR : x ∉ Rm := fun h => hno ((sm_once_mem B x).mpr (hsub x h))
      exact ⟨fun _ => hnone hxR, fun e => absurd (by decide) e⟩
theorem xe_apart {M : wd_M} {l r p1 p2 w : Nat} {A B : List ay_Row} {sh : Bool} {K : wd_Z → wd_M → wd_L → Prop} (hd : 3 ≤ d) (hs : s < 32768) (hO : xe_O M0 M s q w [] 0) (hop : M0 15 s = nI (if sh then 9 else 8)) (hall : xe_all M0) (hA : xe_B M0 l p1 w A) (hB : xe_B M0 r p2 w B) (hls : l ≠ s) (hrs : r ≠ s) (hp1 : p1 + A.length * w ≤ q) (hp2 : p2 + B.length * w ≤ q) (hq : q ≤ 600000) (hAl : A.length < 100000) (hBl : B.length ≤ 8192) (hw : w ≤ 256)
    (hr : q + (ex_apart sh A B).flatten.length ≤ 600000) (hK : ∀ M', xe_O M0 M' s q w (ex_apart sh A B).flatten (ex_apart sh A B).length → K (ix_z z 644) M' L) : wRunV (d, 0, 0) mX5_apart [.ref 628, .int (nI s), .int (nI l), .int (nI r)] z M L K := by
  obtain ⟨d, rfl, hd'⟩ := ak_deep hd
  have hB' := xe_B_fr hB hrs hp2 hO.1
  have hall' := xe_all_fr hall hO.1.2.2.2.2.2.2.2.1
  have hrl := hB'.1
  refine fX5_apart_e ?_
  rw [nI_clamp (show r < 2 ^ 31 by omega), hB'.2.1, hB'.2.2.2.1, ak_n0]
  refine ⟨vp_in_nI hrl (by omega), vp_in_nI hrl (by omega), vp_in_nI hrl (by omega), ?_⟩
  refine ix_begin (kf := ex_key (cp_sp w)) (R := B) (Or.inr rfl) (fun i r hi => ?_) fun M1 J1 F1 => ?_
  · have := xe_keys (f := 0) hB' (by omega) (Or.inr (Or.inr ⟨rfl, rfl⟩)) (xe_all_n hall' hw) (by rw [cp_sp_len]; omega) (cp_sp_mem (Nat.le_refl _)) i r hi
    rw [cp_sp_len] at this
    exact this
  have O1 := xe_O_sc (M' := M1) hO fun c c1 c2 => F1 c (by omega) (by omega)
  refine xe_fill (z := ix_z z 644) (P := fun i M => xe_O M0 M s q w [] 0 → wRun (d + 1, 0, 0) mX5_apart 37 [some (.ref 628), some (.int (nI s)), some (.int (nI l)), some (.int (nI r)), some (.int (nI i)), none, none] [] (ix_z z 644) M L (wQv K)) (fun i M2 hi J2 nx O2 => ?_) B.length 0 M1 (by omega) J1 (fun M2 J2 F2 O2 => ?_) O1
  · have hB2 := xe_B_fr hB hrs hp2 O2.1
    obtain ⟨y, hy⟩ := sl_idx hi
    refine fX5_apart_37 ?_
    rw [nI_clamp (show r < 2 ^ 31 by omega), hB2.2.2.1]
    refine ⟨vp_in_nI hrl (by omega), fun q => absurd q (nI_ge hi (by omega)), fun _ => ix_add hd' J2 hy hBl hw (Or.inr rfl) fun M3 j J3 _ _ _ F3 _ => ?_⟩
    rw [nI_1]
    exact nx M3 J3 F3 (xe_O_sc (M' := M3) O2 fun c c1 c2 => F3 c (by omega))
  · have hB2 := xe_B_fr hB hrs hp2 O2.1
    refine fX5_apart_37 ?_
    rw [nI_clamp (show r < 2 ^ 31 by omega), hB2.2.2.1]
    refine ⟨vp_in_nI hrl (by omega), fun _ => ?_, fun q => absurd (nI_le (Nat.le_refl _) (by omega)) q⟩
    rw [ak_n0]
    have eKl : ix_kl (ex_key (cp_sp w)) B B.length = B := by
      unfold ix_kl
      rw [List.take_length, xe_map_id hB.2.2.2.2.1 hw]
    have eKs : ix_Ks (ex_key (cp_sp w)) B B.length = sm_once B := by unfold ix_Ks; rw [eKl]
    obtain ⟨j1, j2, j3, j4, j5⟩ := J2
    rw [eKs] at j2 j4
    rw [eKl] at j4
    refine xe_apart_67 (d := d) (z := ix_z z 644) (p1 := p1) (p2 := p2) (B := B) hd' hs hop hall hA hB hls hrs hp1 hp2 hq hAl hBl hw hr hK A.length 0 M2 [] B (by omega) (by simp) ⟨j1, j2, fun j y hj => ?_, fun j y hj => (j4 j y hj).2.2, fun _ h => h, hBl⟩ (by simpa using O2)
    obtain ⟨⟨i', i1, i2, -⟩, -⟩ := j4 j y hj
    exact ⟨i', i1, i2⟩
end XE
