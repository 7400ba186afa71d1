/-! CONTRACTS of ApplyFree$Executor: join whole -/
section XE
variable {d : Nat} {z : wd_Z} {M0 : wd_M} {L : wd_L} {s q : Nat}
theorem ex_join1_len {k wr w1 : Nat} {ls : List Int32} {v : Int32} {R : List ay_Row} {x : ay_Row} (hx : x.length = w1) (h : ¬ (k ≤ 1 ∧ ex_mt ls R x ≠ [])) (h2 : k = 4 ∨ k = 1 ∨ (k = 2 ∧ ex_mt ls R x ≠ []) ∨ (k = 3 ∧ ex_mt ls R x = [])) : ex_join1 k ls v wr R x = [x ++ List.replicate (ex_more k wr ls.length) (if k = 4 then (if ex_mt ls R x = [] then 0 else 1) else v)] := by
  unfold ex_join1
  rw [if_neg h, if_pos h2]
theorem xe_join_127 {l r p1 p2 w1 w2 fr k : Nat} {ls : List Int32} {v : Int32} {A B : List ay_Row} {K : wd_Z → wd_M → wd_L → Prop} (hd : 2 ≤ d) (hj : xe_jn M0 s q l r p1 p2 w1 w2 fr k ls v A B)
    (hr : q + (A.flatMap (ex_join1 k ls v w2 B)).flatten.length ≤ 600000)
    (hK : ∀ M', xe_O M0 M' s q (w1 + ex_more k w2 ls.length) (A.flatMap (ex_join1 k ls v w2 B)).flatten (A.flatMap (ex_join1 k ls v w2 B)).length → K z M' L) :
    ∀ (n i : Nat) (M : wd_M), i + n = A.length → ix_J z M p2 w2 644 0 ls.length (ex_key (cp_sp ls.length)) B B.length → xe_O M0 M s q (w1 + ex_more k w2 ls.length) ((A.take i).flatMap (ex_join1 k ls v w2 B)).flatten ((A.take i).flatMap (ex_join1 k ls v w2 B)).length →
      wRun (d + 1, 0, 0) mX5_join 127 [some (.ref 628), some (.int (nI s)), some (.int (nI l)), some (.int (nI r)), some (.int (nI k)), some (.int (nI ls.length)), some (.int (nI (ex_more k w2 ls.length))), some (.int (nI i)), none, none] [] z M L (wQv K)
  | 0, i, M, hi, hJ, hO => by
    obtain ⟨hs, hall, hA, hB, hls, hrs, hp1, hp2, hq, hAl, hBl, hP, hn256, hnw, hw2, hcol, hk, hkk, hvv⟩ := id hj
    have ei : i = A.length := by omega
    subst ei
    have hA' := xe_B_fr hA hls hp1 hO.1
    rw [List.take_length] at hO
    refine fX5_join_127 ?_
    have hl := hA'.1
    rw [nI_clamp (show l < 2 ^ 31 by omega), hA'.2.2.1]
    exact ⟨vp_in_nI hl (by omega), fun _ => wQv_i (hK M hO), fun q => absurd (nI_le (Nat.le_refl _) (by omega)) q⟩
  | n + 1, i, M, hi, hJ, hO => by
    obtain ⟨hs, hall, hA, hB, hls, hrs, hp1, hp2, hq, hAl, hBl, hP, hn256, hnw, hw2, hcol, hk, hkk, hvv⟩ := id hj
    have hA' := xe_B_fr hA hls hp1 hO.1
    have hP' := xe_pr_fr (M' := M) hP fun c hc => hO.1.1 c (by omega)
    obtain ⟨x, hxi⟩ := sl_idx (show i < A.length by omega)
    have hxw := sl_W_at hA.2.2.2.2.1 hxi
    have hat := xe_at_lt (w := w1) hxi
    have hl := hA'.1
    have rm := xe_room (f := ex_join1 k ls v w2 B) hxi
    have et := xe_take (f := ex_join1 k ls v w2 B) hxi
    have hmo : ex_more k w2 ls.length < 100000 := by unfold ex_more; split <;> (try split) <;> omega
    have ekl : ix_kl (ex_key (cp_sp ls.length)) B B.length = B.map (fun y => y.take ls.length) := by
      unfold ix_kl
      rw [List.take_length, xe_mapt hB.2.2.2.2.1 hnw hn256]
    have eat : ∀ {i' : Nat} {q : List Int32}, (ix_kl (ex_key (cp_sp ls.length)) B B.length)[i']? = some q ↔ ∃ y', B[i']? = some y' ∧ y'.take ls.length = q := fun {i' q} => by
      rw [ekl, List.getElem?_map]
      cases e : B[i']? with
      | none => simp
      | some y' => simp
    have hmem : ex_key ls x ∈ ix_Ks (ex_key (cp_sp ls.length)) B B.length ↔ ex_mt ls B x ≠ [] := by
      rw [ix_Ks_mem, ekl]
      have := ex_mt_mem (ls := ls) (B := B) (x := x)
      constructor
      · exact fun h e => this.mp e h
      · exact fun h => Decidable.byContradiction fun e => h (this.mpr e)
    -- on to the next row
    have nxt : ∀ {M' : wd_M} {o : List ay_Row}, ex_join1 k ls v w2 B x = o → ix_J z M' p2 w2 644 0 ls.length (ex_key (cp_sp ls.length)) B B.length → xe_O M0 M' s q (w1 + ex_more k w2 ls.length) (((A.take i).flatMap (ex_join1 k ls v w2 B)).flatten ++ o.flatten) (((A.take i).flatMap (ex_join1 k ls v w2 B)).length + o.length) → wRun (d + 1, 0, 0) mX5_join 347 [some (.ref 628), some (.int (nI s)), some (.int (nI l)), some (.int (nI r)), some (.int (nI k)), some (.int (nI ls.length)), some (.int (nI (ex_more k w2 ls.length))), some (.int (nI i)), none, none] [] z M' L (wQv K) := fun {M' o} e J' O' => by
      refine fX5_join_347 ?_
      rw [nI_1]
      refine xe_join_127 hd hj hr hK n (i + 1) M' (by omega) J' ?_
      rw [et, e, List.flatten_append, List.length_append]
      exact O'
    -- without partners
    have alone : ∀ {x8 : Int32}, (x8 < 0 ↔ ex_mt ls B x = []) → ¬ (k ≤ 1 ∧ ex_mt ls B x ≠ []) → wRun (d + 1, 0, 0) mX5_join 247 [some (.ref 628), some (.int (nI s)), some (.int (nI l)), some (.int (nI r)), some (.int (nI k)), some (.int (nI ls.length)), some (.int (nI (ex_more k w2 ls.length))), some (.int (nI i)), some (.int x8), none] [] z M L (wQv K) := fun {x8} hx8 hnk => by
      have h8 : 0 ≤ x8 ↔ ex_mt ls B x ≠ [] := by
        have : 0 ≤ x8 ↔ ¬ x8 < 0 := by
          rw [sm_i_le, sm_i_lt]
          omega
        rw [this, hx8]
      have c281 : (k = 4 ∨ k = 1 ∨ (k = 2 ∧ ex_mt ls B x ≠ []) ∨ (k = 3 ∧ ex_mt ls B x = [])) → wRun (d + 1, 0, 0) mX5_join 281 [some (.ref 628), some (.int (nI s)), some (.int (nI l)), some (.int (nI r)), some (.int (nI k)), some (.int (nI ls.length)), some (.int (nI (ex_more k w2 ls.length))), some (.int (nI i)), some (.int x8), none] [] z M L (wQv K) := fun h2 => by
        have e1 := ex_join1_len (wr := w2) (v := v) hxw hnk h2
        have e2 : (ex_join1 k ls v w2 B x).flatten.length = w1 + ex_more k w2 ls.length := by rw [e1]; simp [hxw]
        rw [e2] at rm
        refine fX5_join_281 ?_
        rw [ak_n0]
        refine xe_copy (f := 0) (by omega) hO hA' (by omega) hxi (by omega) (by omega) fun M1 O1 F1 => ?_
        rw [List.drop_zero] at O1
        have hB3 := xe_B_fr hB hrs hp2 O1.1
        have hall3 := xe_all_fr hall O1.1.2.2.2.2.2.2.2.1
        have J1 := ix_J_mv (M' := M1) hJ (fun c' c1 c2 => F1 c' (by omega) (by omega)) fun i' r' hi' => (xe_keys hB3 (by omega) (Or.inr (Or.inr ⟨rfl, rfl⟩)) (xe_all_n hall3 hn256) (by rw [cp_sp_len]; omega) (cp_sp_mem hnw) i' r' hi').1
        refine xe_join_292 (mo := ex_more k w2 ls.length) (u := if k = 4 then (if ex_mt ls B x = [] then 0 else 1) else v) (out := ((A.take i).flatMap (ex_join1 k ls v w2 B)).flatten ++ x) (c := ((A.take i).flatMap (ex_join1 k ls v w2 B)).length) hj ?_ hmo (by rw [List.length_append, hxw]; omega) (fun M2 _ J2 O2 => nxt e1 J2 ?_) (ex_more k w2 ls.length) 0 M1 (by omega) J1 (by simpa using O1)
        · by_cases e4 : k = 4
          · rw [if_pos e4, if_pos e4]
            by_cases e5 : ex_mt ls B x = []
            · rw [if_pos e5, if_pos (hx8.mpr e5)]
            · rw [if_neg e5, if_neg (fun h => e5 (hx8.mp h))]
          · rw [if_neg e4, if_neg e4]
        · simpa [List.append_assoc] using O2
      have none' : ¬ (k = 4 ∨ k = 1 ∨ (k = 2 ∧ ex_mt ls B x ≠ []) ∨ (k = 3 ∧ ex_mt ls B x = [])) → wRun (d + 1, 0, 0) mX5_join 347 [some (.ref 628), some (.int (nI s)), some (.int (nI l)), some (.int (nI r)), some (.int (nI k)), some (.int (nI ls.length)), some (.int (nI (ex_more k w2 ls.length))), some (.int (nI i)), none, none] [] z M L (wQv K) := fun h2 => by
        have e1 : ex_join1 k ls v w2 B x = [] := by
          unfold ex_join1
          rw [if_neg hnk, if_neg h2]
        exact nxt e1 hJ (by simpa using hO)
      have c270 : ¬ k = 4 → ¬ k = 1 → ¬ (k = 2 ∧ ex_mt ls B x ≠ []) → wRun (d + 1, 0, 0) mX5_join 270 [some (.ref 628), some (.int (nI s)), some (.int (nI l)), some (.int (nI r)), some (.int (nI k)), some (.int (nI ls.length)), some (.int (nI (ex_more k w2 ls.length))), some (.int (nI i)), some (.int x8), none] [] z M L (wQv K) := fun g1 g2 g3 => by
        refine fX5_join_270 ?_
        rw [ak_n3, nI_eq (by omega) (by omega), h8]
        refine ⟨fun e3 => ⟨fun e => none' ?_, fun e => c281 ?_⟩, fun e3 => none' ?_⟩
        · rintro (h | h | h | h)
          · exact g1 h
          · exact g2 h
          · exact g3 h
          · exact e h.2
        · exact Or.inr (Or.inr (Or.inr ⟨e3, Decidable.not_not.mp e⟩))
        · rintro (h | h | h | h)
          · exact g1 h
          · exact g2 h
          · exact g3 h
          · exact e3 h.1
      refine fX5_join_247 ?_
      rw [ak_n4, ak_n1, ak_n2, nI_eq (by omega) (by omega), nI_eq (by omega) (by omega), nI_eq (by omega) (by omega), h8]
      refine ⟨fun e => c281 (Or.inl e), fun e4 => ⟨fun e => c281 (Or.inr (Or.inl e)), fun e1 => ⟨fun e2 => ⟨fun e => c281 (Or.inr (Or.inr (Or.inl ⟨e2, e⟩))), fun e => c270 e4 e1 fun h => e h.2⟩, fun e2 => c270 e4 e1 fun h => e2 h.1⟩⟩⟩
    refine fX5_join_127 ?_
    rw [nI_clamp (show l < 2 ^ 31 by omega), hA'.2.2.1]
    refine ⟨vp_in_nI hl (by omega), fun q => absurd q (nI_ge (by omega) (by omega)), fun _ => xe_at hA' ?_⟩
    rw [nI_clamp (show s < 2 ^ 31 by omega), hP'.1]
    have hkl : (ex_key ls x).length = ls.length := by unfold ex_key; rw [List.length_map]
    have kx : ix_key M 638 (p1 + i * w1) 22 fr (ex_key ls x) := ix_key_of (Or.inr (Or.inl ⟨rfl, rfl⟩)) hP'.2.2.1 hP'.2.2.2 hcol (sl_fget hA'.2.2.2.2.2 hA'.2.2.2.2.1 hxi) hxw (by omega)
    have hKl := ix_Ks_len (kf := ex_key (cp_sp ls.length)) (R := B) (k := B.length)
    refine ⟨vp_in_nI hs (by omega), ix_find (by omega) (by rw [hkl]; exact hJ.1) hJ.2.1 (by rw [hkl]; exact ix_J_F hJ) kx (by omega) (by omega) (fun jj hjj => ?_) (fun hno => ?_)⟩
    · have hjl := (List.getElem?_eq_some_iff.mp hjj).1
      have hne : ex_mt ls B x ≠ [] := hmem.mp (List.mem_of_getElem? hjj)
      have hx8 : nI jj < 0 ↔ ex_mt ls B x = [] := ⟨fun e => absurd e (nI_pos (by omega)), fun e => absurd e hne⟩
      refine ⟨fun e => alone hx8 ?_, fun e => ⟨fun e2 => absurd e2 (nI_pos (by omega)), fun _ => ?_⟩⟩
      · rw [ak_n1, nI_ltI (by omega) (by omega)] at e
        exact fun h => by omega
      · rw [ak_n1, nI_ltI (by omega) (by omega)] at e
        obtain ⟨⟨f0, f1, f2, f3⟩, -⟩ := hJ.2.2.2.1 jj (ex_key ls x) hjj
        obtain ⟨y, y1, y2⟩ := eat.mp f2
        have hfl := (List.getElem?_eq_some_iff.mp y1).1
        rw [nI_clamp (by omega), f1]
        refine ⟨vp_in_nI (by omega) (by omega), ?_⟩
        have e1 : ex_join1 k ls v w2 B x = (ex_mt ls B x).map (fun y => x ++ y.drop ls.length) := by
          unfold ex_join1
          rw [if_pos ⟨by omega, hne⟩]
        rw [e1] at rm
        have ef := xe_filt (B := B) (P := fun y => y.take ls.length == ex_key ls x) (a := 0) (b := f0) (by omega) fun i' y' h1 h2 h3 => by
          rw [beq_eq_false_iff_ne]
          exact fun e => f3 i' h2 (eat.mpr ⟨y', h3, e⟩)
        refine xe_join_197 (out := ((A.take i).flatMap (ex_join1 k ls v w2 B)).flatten) (c := ((A.take i).flatMap (ex_join1 k ls v w2 B)).length) (x := x) (by omega) hj hxi (by rw [List.length_append]; omega) (fun M2 J2 O2 => nxt e1 J2 (by rw [List.length_map]; exact O2)) (B.length - f0) f0 M y (by omega) y1 y2 hJ ?_
        rw [ef]
        simpa using hO
    · have hem : ex_mt ls B x = [] := Decidable.byContradiction fun h => hno (hmem.mpr h)
      have hx8 : (-1 : Int32) < 0 ↔ ex_mt ls B x = [] := ⟨fun _ => hem, fun _ => by decide⟩
      have hnk : ¬ (k ≤ 1 ∧ ex_mt ls B x ≠ []) := fun h => h.2 hem
      exact ⟨fun _ => alone hx8 hnk, fun _ => ⟨fun _ => alone hx8 hnk, fun e => absurd (by decide) e⟩⟩
theorem xe_join {M : wd_M} {l r p1 p2 w1 w2 fr k : Nat} {ls : List Int32} {v : Int32} {A B : List ay_Row} {K : wd_Z → wd_M → wd_L → Prop} (hd : 3 ≤ d) (hO : xe_O M0 M s q w1 [] 0) (hj : xe_jn M0 s q l r p1 p2 w1 w2 fr k ls v A B) (hw1 : w1 < 100000)
    (hr : q + (A.flatMap (ex_join1 k ls v w2 B)).flatten.length ≤ 600000)
    (hK : ∀ M', xe_O M0 M' s q (w1 + ex_more k w2 ls.length) (A.flatMap (ex_join1 k ls v w2 B)).flatten (A.flatMap (ex_join1 k ls v w2 B)).length → K (ix_z z 644) M' L) : wRunV (d, 0, 0) mX5_join [.ref 628, .int (nI s), .int (nI l), .int (nI r)] z M L K := by
  obtain ⟨hs, hall, hA, hB, hls, hrs, hp1, hp2, hq, hAl, hBl, hP, hn256, hnw, hw2, hcol, hk, hkk, hvv⟩ := id hj
  obtain ⟨d, rfl, hd'⟩ := ak_deep hd
  have hB' := xe_B_fr hB hrs hp2 hO.1
  have hall' := xe_all_fr hall hO.1.2.2.2.2.2.2.2.1
  have hP' := xe_pr_fr (M' := M) hP fun c hc => hO.1.1 c (by omega)
  have hrl := hB'.1
  have e20 : M 20 s = nI k := by rw [hO.1.1 20 (by omega)]; exact hkk
  refine fX5_join_e ?_
  rw [nI_clamp (show s < 2 ^ 31 by omega), nI_clamp (show r < 2 ^ 31 by omega), hB'.2.1, hB'.2.2.2.1, hP'.2.1, e20]
  refine ⟨vp_in_nI hs (by omega), vp_in_nI hs (by omega), vp_in_nI hrl (by omega), vp_in_nI hrl (by omega), ?_⟩
  rw [ak_n0]
  refine ix_begin (kf := ex_key (cp_sp ls.length)) (R := B) (Or.inr rfl) (fun i r hi => ?_) fun M1 J1 F1 => ?_
  · have := xe_keys (f := 0) hB' (by omega) (Or.inr (Or.inr ⟨rfl, rfl⟩)) (xe_all_n hall' hn256) (by rw [cp_sp_len]; omega) (cp_sp_mem hnw) i r hi
    rw [cp_sp_len] at this
    exact this
  have O1 := xe_O_sc (M' := M1) hO fun c c1 c2 => F1 c (by omega) (by omega)
  -- the rows of the right
  refine xe_fill (z := ix_z z 644) (P := fun i M => xe_O M0 M s q w1 [] 0 → wRun (d + 1, 0, 0) mX5_join 55 [some (.ref 628), some (.int (nI s)), some (.int (nI l)), some (.int (nI r)), some (.int (nI k)), some (.int (nI ls.length)), some (.int (nI i)), none, none, none] [] (ix_z z 644) M L (wQv K)) (fun i M2 hi J2 nx O2 => ?_) B.length 0 M1 (by omega) J1 (fun M2 J2 F2 O2 => ?_) O1
  · have hB2 := xe_B_fr hB hrs hp2 O2.1
    obtain ⟨y, hy⟩ := sl_idx hi
    refine fX5_join_55 ?_
    rw [nI_clamp (show r < 2 ^ 31 by omega), hB2.2.2.1]
    refine ⟨vp_in_nI hrl (by omega), fun q => absurd q (nI_ge hi (by omega)), fun _ => ix_add hd' J2 hy hBl hn256 (Or.inr rfl) fun M3 j J3 _ _ _ F3 _ => ?_⟩
    rw [nI_1]
    exact nx M3 J3 F3 (xe_O_sc (M' := M3) O2 fun c c1 c2 => F3 c (by omega))
  · have hB2 := xe_B_fr hB hrs hp2 O2.1
    have c111 : wRun (d + 1, 0, 0) mX5_join 111 [some (.ref 628), some (.int (nI s)), some (.int (nI l)), some (.int (nI r)), some (.int (nI k)), some (.int (nI ls.length)), none, none, none, none] [.int (nI (ex_more k w2 ls.length))] (ix_z z 644) M2 L (wQv K) := by
      refine fX5_join_111 ?_
      rw [nI_clamp (show s < 2 ^ 31 by omega), O2.2.2.2.1, nI_add, ak_n0]
      refine ⟨vp_in_nI hs (by omega), vp_in_nI hs (by omega), ?_⟩
      have O3 := xe_wd (ws' := w1 + ex_more k w2 ls.length) O2
      have hB3 := xe_B_fr hB hrs hp2 O3.1
      have hall3 := xe_all_fr hall O3.1.2.2.2.2.2.2.2.1
      exact xe_join_127 (d := d) (z := ix_z z 644) hd' hj hr hK A.length 0 _ (by omega) (ix_J_mv J2 (fun c c1 c2 => ak_up_cell (by omega)) fun i' r' hi' => (xe_keys hB3 (by omega) (Or.inr (Or.inr ⟨rfl, rfl⟩)) (xe_all_n hall3 hn256) (by rw [cp_sp_len]; omega) (cp_sp_mem hnw) i' r' hi').1) (by simpa using O3)
    unfold ex_more at c111
    refine fX5_join_55 ?_
    rw [nI_clamp (show r < 2 ^ 31 by omega), hB2.2.2.1, hB2.2.2.2.1]
    refine ⟨vp_in_nI hrl (by omega), fun _ => ?_, fun q => absurd (nI_le (Nat.le_refl _) (by omega)) q⟩
    rw [ak_n1, ak_n4, nI_ltI (by omega) (by omega), nI_eq (by omega) (by omega), pk_sub hnw]
    refine ⟨fun e => ⟨fun e4 => ?_, fun e4 => ?_⟩, fun e => ⟨vp_in_nI hrl (by omega), ?_⟩⟩
    · rw [if_neg (by omega), if_pos e4] at c111; exact c111
    · rw [if_neg (by omega), if_neg e4] at c111; exact c111
    · rw [if_pos (by omega)] at c111; exact c111
end XE
