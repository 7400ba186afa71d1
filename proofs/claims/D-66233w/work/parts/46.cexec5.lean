/-! CONTRACTS of ApplyFree$Executor: join -/
theorem xe_filt {B : List ay_Row} {P : ay_Row → Bool} {a : Nat} : ∀ {b : Nat}, a ≤ b → (∀ i y, a ≤ i → i < b → B[i]? = some y → P y = false) → (B.take b).filter P = (B.take a).filter P
  | 0, h, _ => by rw [Nat.le_zero.mp h]
  | b + 1, h, hn => by
    rcases Nat.lt_or_eq_of_le h with q | q
    · rw [← xe_filt (b := b) (by omega) fun i y h1 h2 => hn i y h1 (by omega)]
      cases e : B[b]? with
      | none =>
        have := List.getElem?_eq_none_iff.mp e
        rw [List.take_of_length_le (by omega), List.take_of_length_le (by omega)]
      | some y =>
        rw [sl_take e, List.filter_append, List.filter_cons, hn b y (by omega) (by omega) e]
        simp
    · rw [q]
theorem ex_mt_mem {ls : List Int32} {B : List ay_Row} {x : ay_Row} : ex_mt ls B x = [] ↔ ex_key ls x ∉ B.map (fun y => y.take ls.length) := by
  unfold ex_mt
  rw [List.filter_eq_nil_iff, List.mem_map]
  constructor
  · rintro h ⟨y, h1, h2⟩
    exact h y h1 (by rw [beq_iff_eq]; exact h2)
  · intro h y h1 h2
    rw [beq_iff_eq] at h2
    exact h ⟨y, h1, h2⟩
section XE
variable {d : Nat} {z : wd_Z} {M0 : wd_M} {L : wd_L} {s q : Nat}
/-- what join has at hand -/
def xe_jn (M0 : wd_M) (s q l r p1 p2 w1 w2 fr k : Nat) (ls : List Int32) (v : Int32) (A B : List ay_Row) : Prop :=
  s < 32768 ∧ xe_all M0 ∧ xe_B M0 l p1 w1 A ∧ xe_B M0 r p2 w2 B ∧ l ≠ s ∧ r ≠ s ∧ p1 + A.length * w1 ≤ q ∧ p2 + B.length * w2 ≤ q ∧ q ≤ 600000 ∧ A.length < 100000 ∧ B.length ≤ 8192 ∧ xe_pr M0 s fr ls ∧ ls.length ≤ 256 ∧ ls.length ≤ w2 ∧ w2 < 100000 ∧ (∀ c, c ∈ ls → ∃ j, c = nI j ∧ j < w1) ∧ k ≤ 4 ∧ M0 20 s = nI k ∧ M0 21 s = v
theorem xe_mapt {B : List ay_Row} {n w : Nat} (h : sl_W w B) (hn : n ≤ w) (h256 : n ≤ 256) : B.map (ex_key (cp_sp n)) = B.map (fun y => y.take n) := List.map_congr_left fun y hy => ex_key_sp (by rw [h y hy]; exact hn) (by omega)
/-- rows of the right with the same key, along the chain -/
theorem xe_join_197 {l r p1 p2 w1 w2 fr k i ws : Nat} {ls : List Int32} {v : Int32} {A B : List ay_Row} {x : ay_Row} {out : List Int32} {c : Nat} {x6 : Int32} {K : wd_Z → wd_M → wd_L → Prop} (hd : 1 ≤ d) (hj : xe_jn M0 s q l r p1 p2 w1 w2 fr k ls v A B) (hx : A[i]? = some x)
    (hr : q + (out ++ ((ex_mt ls B x).map (fun y => x ++ y.drop ls.length)).flatten).length ≤ 600000)
    (hK : ∀ M', ix_J z M' p2 w2 644 0 ls.length (ex_key (cp_sp ls.length)) B B.length → xe_O M0 M' s q ws (out ++ ((ex_mt ls B x).map (fun y => x ++ y.drop ls.length)).flatten) (c + (ex_mt ls B x).length) → wRun (d + 1, 0, 0) mX5_join 347 [some (.ref 628), some (.int (nI s)), some (.int (nI l)), some (.int (nI r)), some (.int (nI k)), some (.int (nI ls.length)), some (.int x6), some (.int (nI i)), none, none] [] z M' L (wQv K)) :
    ∀ (n j : Nat) (M : wd_M) (y : ay_Row), j + n = B.length → B[j]? = some y → y.take ls.length = ex_key ls x → ix_J z M p2 w2 644 0 ls.length (ex_key (cp_sp ls.length)) B B.length →
      xe_O M0 M s q ws (out ++ (((B.take j).filter (fun y => y.take ls.length == ex_key ls x)).map (fun y => x ++ y.drop ls.length)).flatten) (c + ((B.take j).filter (fun y => y.take ls.length == ex_key ls x)).length) →
      wRun (d + 1, 0, 0) mX5_join 197 [some (.ref 628), some (.int (nI s)), some (.int (nI l)), some (.int (nI r)), some (.int (nI k)), some (.int (nI ls.length)), some (.int x6), some (.int (nI i)), none, some (.int (nI j))] [] z M L (wQv K) := by
  intro n
  induction n using Nat.strongRecOn with
  | ind n ih =>
    intro j M y hn hy hyk hJ hO
    obtain ⟨hs, hall, hA, hB, hls, hrs, hp1, hp2, hq, hAl, hBl, hP, hn256, hnw, hw2, hcol, hk, hkk, hvv⟩ := id hj
    have hjl := (List.getElem?_eq_some_iff.mp hy).1
    have hA' := xe_B_fr hA hls hp1 hO.1
    have hxw := sl_W_at hA.2.2.2.2.1 hx
    have hyw := sl_W_at hB.2.2.2.2.1 hy
    have ekl : ix_kl (ex_key (cp_sp ls.length)) B B.length = B.map (fun y => y.take ls.length) := by
      unfold ix_kl
      rw [List.take_length, xe_mapt hB.2.2.2.2.1 hnw hn256]
    have eat : ∀ {i' : Nat} {q : List Int32}, (ix_kl (ex_key (cp_sp ls.length)) B B.length)[i']? = some q ↔ ∃ y', B[i']? = some y' ∧ y'.take ls.length = q := fun {i' q} => by
      rw [ekl, List.getElem?_map]
      cases e : B[i']? with
      | none => simp
      | some y' => simp
    have hPy : (y.take ls.length == ex_key ls x) = true := by rw [beq_iff_eq]; exact hyk
    have hts : (B.take (j + 1)).filter (fun y => y.take ls.length == ex_key ls x) = (B.take j).filter (fun y => y.take ls.length == ex_key ls x) ++ [y] := by
      rw [sl_take hy, List.filter_append, List.filter_cons, if_pos hPy]; rfl
    -- the rest of the rows
    have rm : ((((B.take j).filter (fun y => y.take ls.length == ex_key ls x)).map (fun y => x ++ y.drop ls.length)).flatten).length + (w1 + (w2 - ls.length)) ≤ ((ex_mt ls B x).map (fun y => x ++ y.drop ls.length)).flatten.length := by
      have e : ex_mt ls B x = (B.take (j + 1)).filter (fun y => y.take ls.length == ex_key ls x) ++ (B.drop (j + 1)).filter (fun y => y.take ls.length == ex_key ls x) := by
        unfold ex_mt
        rw [← List.filter_append, List.take_append_drop]
      rw [e, hts]
      simp only [List.map_append, List.flatten_append, List.length_append, List.map_cons, List.map_nil, List.flatten_cons, List.flatten_nil, List.length_nil, List.length_drop, hxw, hyw]
      omega
    rw [List.length_append] at hr
    refine fX5_join_197 ⟨fun q => absurd q (nI_pos (by omega)), fun _ => ?_⟩
    rw [ak_n0]
    refine xe_copy (f := 0) hd hO hA' (by omega) hx (by omega) (by rw [List.length_append]; omega) fun M1 O1 F1 => ?_
    rw [List.drop_zero] at O1
    refine xe_copy (f := ls.length) hd O1 (xe_B_fr hB hrs hp2 O1.1) (by omega) hy hnw (by simp only [List.length_append]; omega) fun M2 O2 F2 => ?_
    have O3 := xe_O_inc O2
    have hB3 := xe_B_fr hB hrs hp2 O3.1
    have hall3 := xe_all_fr hall O3.1.2.2.2.2.2.2.2.1
    have J3 := ix_J_mv (M' := am_up2 M2 640 s (nI (c + ((B.take j).filter (fun y => y.take ls.length == ex_key ls x)).length + 1))) hJ (fun c' c1 c2 => by rw [ak_up_cell (by omega), F2 c' (by omega) (by omega), F1 c' (by omega) (by omega)]) fun i' r' hi' => (xe_keys hB3 (by omega) (Or.inr (Or.inr ⟨rfl, rfl⟩)) (xe_all_n hall3 hn256) (by rw [cp_sp_len]; omega) (cp_sp_mem hnw) i' r' hi').1
    rw [nI_clamp (show s < 2 ^ 31 by omega), O2.2.2.1, nI_1, nI_clamp (show j < 2 ^ 31 by omega)]
    refine ⟨vp_in_nI hs (by omega), vp_in_nI hs (by omega), vp_in_nI (by omega) (by omega), ?_⟩
    generalize hM3 : am_up2 M2 640 s (nI (c + ((B.take j).filter (fun y => y.take ls.length == ex_key ls x)).length + 1)) = M3 at *
    have O3 : xe_O M0 M3 s q ws (out ++ (((B.take (j + 1)).filter (fun y => y.take ls.length == ex_key ls x)).map (fun y => x ++ y.drop ls.length)).flatten) (c + ((B.take (j + 1)).filter (fun y => y.take ls.length == ex_key ls x)).length) := by
      rw [hts]
      simpa [List.append_assoc, Nat.add_assoc] using O3
    rcases J3.2.2.2.2 j (ex_key ls x) (eat.mpr ⟨y, hy, hyk⟩) with ⟨c1, c2⟩ | ⟨j', c1, c2, c3, c4⟩
    · rw [c1]
      refine fX5_join_197 ⟨fun _ => hK M3 J3 ?_, fun q => absurd ak_m1 q⟩
      have e : ex_mt ls B x = (B.take (j + 1)).filter (fun y => y.take ls.length == ex_key ls x) := by
        have := xe_filt (B := B) (P := fun y => y.take ls.length == ex_key ls x) (a := j + 1) (b := B.length) (by omega) fun i' y' h1 h2 h3 => by
          rw [beq_eq_false_iff_ne]
          exact fun e => c2 i' (by omega) (eat.mpr ⟨y', h3, e⟩)
        rw [← this, List.take_length]; rfl
      rw [e]; exact O3
    · rw [c1]
      obtain ⟨y', g1, g2⟩ := eat.mp c3
      have hj'l := (List.getElem?_eq_some_iff.mp g1).1
      have e := xe_filt (B := B) (P := fun y => y.take ls.length == ex_key ls x) (a := j + 1) (b := j') (by omega) fun i' y' h1 h2 h3 => by
        rw [beq_eq_false_iff_ne]
        exact fun e => c4 i' (by omega) h2 (eat.mpr ⟨y', h3, e⟩)
      exact ih (B.length - j') (by omega) j' M3 y' (by omega) g1 g2 J3 (by rw [e]; exact O3)
/-- the same number some times -/
theorem xe_join_292 {l r p1 p2 w1 w2 fr k i ws mo : Nat} {ls : List Int32} {v : Int32} {A B : List ay_Row} {out : List Int32} {c : Nat} {x8 u : Int32} {K : wd_Z → wd_M → wd_L → Prop} (hj : xe_jn M0 s q l r p1 p2 w1 w2 fr k ls v A B) (hu : u = if k = 4 then (if x8 < 0 then 0 else 1) else v) (hmo : mo < 100000)
    (hr : q + out.length + mo ≤ 600000)
    (hK : ∀ M', (∀ c', c' ≠ 628 → c' ≠ 638 → c' ≠ 640 → True) → ix_J z M' p2 w2 644 0 ls.length (ex_key (cp_sp ls.length)) B B.length → xe_O M0 M' s q ws (out ++ List.replicate mo u) (c + 1) → wRun (d + 1, 0, 0) mX5_join 347 [some (.ref 628), some (.int (nI s)), some (.int (nI l)), some (.int (nI r)), some (.int (nI k)), some (.int (nI ls.length)), some (.int (nI mo)), some (.int (nI i)), none, none] [] z M' L (wQv K)) :
    ∀ (n m : Nat) (M : wd_M), m + n = mo → ix_J z M p2 w2 644 0 ls.length (ex_key (cp_sp ls.length)) B B.length → xe_O M0 M s q ws (out ++ List.replicate m u) c →
      wRun (d + 1, 0, 0) mX5_join 292 [some (.ref 628), some (.int (nI s)), some (.int (nI l)), some (.int (nI r)), some (.int (nI k)), some (.int (nI ls.length)), some (.int (nI mo)), some (.int (nI i)), some (.int x8), some (.int (nI m))] [] z M L (wQv K)
  | 0, m, M, hm, hJ, hO => by
    obtain ⟨hs, hall, hA, hB, hls, hrs, hp1, hp2, hq, hAl, hBl, hP, hn256, hnw, hw2, hcol, hk, hkk, hvv⟩ := id hj
    have em : m = mo := by omega
    subst em
    have O3 := xe_O_inc hO
    have hB3 := xe_B_fr hB hrs hp2 O3.1
    have hall3 := xe_all_fr hall O3.1.2.2.2.2.2.2.2.1
    refine fX5_join_292 ⟨fun _ => ?_, fun q => absurd (nI_le (Nat.le_refl _) (by omega)) q⟩
    rw [nI_clamp (show s < 2 ^ 31 by omega), hO.2.2.1, nI_1]
    exact ⟨vp_in_nI hs (by omega), vp_in_nI hs (by omega), hK _ (fun _ _ _ _ => trivial) (ix_J_mv hJ (fun c' c1 c2 => ak_up_cell (by omega)) fun i' r' hi' => (xe_keys hB3 (by omega) (Or.inr (Or.inr ⟨rfl, rfl⟩)) (xe_all_n hall3 hn256) (by rw [cp_sp_len]; omega) (cp_sp_mem hnw) i' r' hi').1) O3⟩
  | n + 1, m, M, hm, hJ, hO => by
    obtain ⟨hs, hall, hA, hB, hls, hrs, hp1, hp2, hq, hAl, hBl, hP, hn256, hnw, hw2, hcol, hk, hkk, hvv⟩ := id hj
    have c328 : wRun (d + 1, 0, 0) mX5_join 328 [some (.ref 628), some (.int (nI s)), some (.int (nI l)), some (.int (nI r)), some (.int (nI k)), some (.int (nI ls.length)), some (.int (nI mo)), some (.int (nI i)), some (.int x8), some (.int (nI m))] [.int u, .ref 628] z M L (wQv K) := by
      refine fX5_join_328 (xe_put hO (by rw [List.length_append, List.length_replicate]; omega) fun M1 O1 F1 => ?_)
      rw [nI_1]
      have hB3 := xe_B_fr hB hrs hp2 O1.1
      have hall3 := xe_all_fr hall O1.1.2.2.2.2.2.2.2.1
      refine xe_join_292 hj hu hmo hr hK n (m + 1) M1 (by omega) (ix_J_mv hJ (fun c' c1 c2 => F1 c' (by omega) (by omega)) fun i' r' hi' => (xe_keys hB3 (by omega) (Or.inr (Or.inr ⟨rfl, rfl⟩)) (xe_all_n hall3 hn256) (by rw [cp_sp_len]; omega) (cp_sp_mem hnw) i' r' hi').1) ?_
      rw [List.replicate_succ', ← List.append_assoc]; exact O1
    refine fX5_join_292 ⟨fun q => absurd q (nI_ge (by omega) (by omega)), fun _ => ⟨fun e => ?_, fun e => ?_⟩⟩
    · rw [ak_n4, nI_eq (by omega) (by omega)] at e
      rw [if_pos e] at hu
      refine ⟨fun e2 => ?_, fun e2 => ?_⟩
      · rw [if_pos e2] at hu; rw [hu] at c328; exact c328
      · rw [if_neg e2] at hu; rw [hu] at c328; exact c328
    · rw [ak_n4, nI_eq (by omega) (by omega)] at e
      rw [if_neg e] at hu
      rw [nI_clamp (by omega), hO.1.1 21 (by omega), hvv, ← hu]
      exact ⟨vp_in_nI hs (by omega), c328⟩
end XE
