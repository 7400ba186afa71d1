/-! CONTRACTS of ApplyFreeModel: pairs, once, first -/
section MY
variable {T : Nat → sm_T} {tc : Nat → Nat} {nt N : Nat} {tb : Nat → List ay_Row} {tr : Nat → Nat} {d : Nat} {z : wd_Z} {L : wd_L}
/-- what pairs have at hand -/
def my_ph (M0 : wd_M) (t a b wa wb q : Nat) (A B : List ay_Row) : Prop :=
  t < 120 ∧ a < 120 ∧ b < 120 ∧ M0 657 t = nI a ∧ M0 658 t = nI b ∧ M0 656 t = nI (wa + wb) ∧ M0 656 a = nI wa ∧ M0 656 b = nI wb ∧ A.length < 10000 ∧ B.length < 10000 ∧ q + wa * A.length + wb * B.length + (wa + wb) * (A.length * B.length) ≤ 600000
def my_pr (A B : List ay_Row) (i : Nat) : List ay_Row := (A.take i).flatMap fun r => B.map fun s => r ++ s
theorem my_pr_succ {A B : List ay_Row} {i : Nat} {r : ay_Row} (h : A[i]? = some r) : my_pr A B (i + 1) = my_pr A B i ++ B.map fun s => r ++ s := by
  unfold my_pr
  rw [sl_take h, List.flatMap_append, List.flatMap_cons, List.flatMap_nil, List.append_nil]
theorem my_pr_len {A B : List ay_Row} : ∀ {i : Nat}, i ≤ A.length → (my_pr A B i).length = i * B.length
  | 0, _ => by simp [my_pr]
  | i + 1, h => by
    obtain ⟨r, hr⟩ := sl_idx (show i < A.length by omega)
    rw [my_pr_succ hr, List.length_append, my_pr_len (by omega), List.length_map, Nat.succ_mul]
theorem my_pair_52 {t a b wa wb q dp i : Nat} {M0 : wd_M} {A B : List ay_Row} {r : ay_Row} {Q : am_Q} (hd : 1 ≤ d) (h : my_ph M0 t a b wa wb q A B) (hi : A[i]? = some r)
    (go : ∀ M', my_fr q dp M0 M' → my_st M' (q + wa * A.length + wb * B.length + (wa + wb) * ((i + 1) * B.length)) dp → my_A M' q wa A → my_A M' (q + wa * A.length) wb B → my_A M' (q + wa * A.length + wb * B.length) (wa + wb) (my_pr A B (i + 1)) → wRun (d + 1, 0, 0) mX8_paired 43 [some (.ref 650), some (.int (nI t)), some (.int (nI q)), some (.int (nI A.length)), some (.int (nI (q + wa * A.length))), some (.int (nI B.length)), some (.int (nI (q + wa * A.length + wb * B.length))), some (.int (nI (i + 1))), none] [] z M' L Q) :
    ∀ n j (M : wd_M), j + n = B.length → my_fr q dp M0 M → my_st M (q + wa * A.length + wb * B.length + (wa + wb) * (i * B.length + j)) dp → my_A M q wa A → my_A M (q + wa * A.length) wb B → my_A M (q + wa * A.length + wb * B.length) (wa + wb) (my_pr A B i ++ (B.take j).map fun s => r ++ s) →
      wRun (d + 1, 0, 0) mX8_paired 52 [some (.ref 650), some (.int (nI t)), some (.int (nI q)), some (.int (nI A.length)), some (.int (nI (q + wa * A.length))), some (.int (nI B.length)), some (.int (nI (q + wa * A.length + wb * B.length))), some (.int (nI i)), some (.int (nI j))] [] z M L Q
  | 0, j, M, hj, f, s, hA, hB, hP => by
    obtain ⟨t1, a1, b1, h57, h58, h56, h56a, h56b, l1, l2, hq⟩ := id h
    have ej : j = B.length := by omega
    subst ej
    refine fX8_paired_52 ⟨fun _ => ?_, fun q => absurd (nI_le (Nat.le_refl _) (by omega)) q⟩
    rw [nI_1]
    rw [List.take_length, ← my_pr_succ hi] at hP
    exact go M f ⟨by rw [s.1, Nat.succ_mul], s.2⟩ hA hB hP
  | n + 1, j, M, hj, f, s, hA, hB, hP => by
    obtain ⟨t1, a1, b1, h57, h58, h56, h56a, h56b, l1, l2, hq⟩ := id h
    obtain ⟨v, hv⟩ := sl_idx (show j < B.length by omega)
    have il : i < A.length := (List.getElem?_eq_some_iff.mp hi).1
    have gA := my_A_row hA hi
    have gB := my_A_row hB hv
    have cnt : i * B.length + j < A.length * B.length := by
      have : (i + 1) * B.length ≤ A.length * B.length := Nat.mul_le_mul_right _ il
      rw [Nat.succ_mul] at this; omega
    have lt := my_lt (w := wa + wb) cnt
    have pl : (my_pr A B i ++ (B.take j).map fun s => r ++ s).length = i * B.length + j := by
      rw [List.length_append, my_pr_len (by omega), List.length_map, List.length_take]; omega
    have c6 : ∀ {M' : wd_M}, my_fr q dp M0 M' → M' 656 t = nI (wa + wb) ∧ M' 657 t = nI a ∧ M' 658 t = nI b ∧ M' 656 a = nI wa ∧ M' 656 b = nI wb := fun {M'} f' => by
      rw [f'.1 656 (by omega) (by omega) (by omega), f'.1 657 (by omega) (by omega) (by omega), f'.1 658 (by omega) (by omega) (by omega)]
      exact ⟨h56, h57, h58, h56a, h56b⟩
    obtain ⟨m1, m2, m3, m4, m5⟩ := c6 f
    have it : vp_in (nI t) 120 := vp_in_nI (by omega) (by omega)
    have ia : vp_in (nI a) 120 := vp_in_nI (by omega) (by omega)
    have ib : vp_in (nI b) 120 := vp_in_nI (by omega) (by omega)
    refine fX8_paired_52 ?_
    rw [nI_clamp (show t < 2 ^ 31 by omega), m2, nI_clamp (show a < 2 ^ 31 by omega), m4, pk_mul, nI_add, s.1, nI_1]
    generalize htop : q + wa * A.length + wb * B.length + (wa + wb) * (i * B.length + j) = top at *
    refine ⟨fun q => absurd q (nI_ge (by omega) (by omega)), fun _ => ⟨it, ia, it, ia, my_copy hd (by omega) (by omega) ?_⟩⟩
    have f2 : my_fr q dp M0 (am_copy M 665 665 (q + wa * i) top wa) := my_fr_copy f (by omega)
    obtain ⟨k1, k2, k3, k4, k5⟩ := c6 f2
    rw [k3, k2, nI_clamp (show b < 2 ^ 31 by omega), nI_clamp (show a < 2 ^ 31 by omega), k5, k4, pk_mul, nI_add, ak_cp_cell (by omega), s.1, nI_add]
    generalize hM2 : am_copy M 665 665 (q + wa * i) top wa = M2 at f2
    refine ⟨it, ib, it, ia, it, ib, my_copy hd (by omega) (by omega) ⟨it, ?_⟩⟩
    have f3 : my_fr q dp M0 (am_copy M2 665 665 (q + wa * A.length + wb * j) (top + wa) wb) := my_fr_copy f2 (by omega)
    have m19 : (am_copy M2 665 665 (q + wa * A.length + wb * j) (top + wa) wb) 650 19 = nI top := by rw [ak_cp_cell (by omega), ← hM2, ak_cp_cell (by omega), s.1]
    rw [m19, (c6 f3).1, nI_add, nI_1]
    generalize hM3 : am_copy M2 665 665 (q + wa * A.length + wb * j) (top + wa) wb = M3 at f3
    have o3 : ∀ x, x < top → M3 665 x = M 665 x := fun x hx => by
      rw [← hM3, ak_cp_own, pk_cpy_out (by omega), ← hM2, ak_cp_own, pk_cpy_out (by omega)]
    refine my_pair_52 hd h hi go n (j + 1) _ (by omega) (my_fr_19 f3) ⟨?_, ?_⟩ (my_A_fr hA fun x _ x2 => ?_) (my_A_fr hB fun x _ x2 => ?_) ?_
    · rw [ak_up_same, ← htop]
      congr 1
      rw [← Nat.add_assoc (i * B.length) j 1, Nat.mul_succ (wa + wb)]
      omega
    · rw [ak_up_ne (by omega), ← hM3, ak_cp_cell (by omega), ← hM2, ak_cp_cell (by omega)]; exact s.2
    · rw [ak_up_cell (by omega)]; exact o3 x (by omega)
    · rw [ak_up_cell (by omega)]; exact o3 x (by omega)
    · rw [sl_take hv, List.map_append, ← List.append_assoc]
      refine my_A_snoc (my_A_fr hP fun x _ x2 => ?_) (by rw [List.length_append, gA.2.1, gB.2.1]) (k := top) (by rw [pl]; exact htop.symm) ?_
      · rw [pl] at x2
        rw [ak_up_cell (by omega)]; exact o3 x (by omega)
      · rw [ak_up_cell (by omega), sl_app, gA.2.1]
        refine ⟨?_, ?_⟩
        · rw [← hM3, ak_cp_own]
          refine sl_cpy_out ?_ (by rw [gA.2.1]; omega)
          rw [← hM2, ak_cp_own]; exact sl_cpy_in gA.1 gA.2.1
        · rw [← hM3, ak_cp_own]
          refine sl_cpy_in (sl_congr gB.1 fun x hx => ?_) gB.2.1
          rw [← hM2, ak_cp_own, pk_cpy_out (by omega)]
theorem my_pair_43 {t a b wa wb q dp : Nat} {M0 : wd_M} {A B : List ay_Row} {K : Int32 → wd_Z → wd_M → wd_L → Prop} (hd : 2 ≤ d) (h : my_ph M0 t a b wa wb q A B)
    (hK : ∀ M', my_fr q dp M0 M' → my_st M' (q + (wa + wb) * (my_pr A B A.length).length) dp → my_A M' q (wa + wb) (my_pr A B A.length) → K (nI (my_pr A B A.length).length) z M' L) :
    ∀ n i (M : wd_M), i + n = A.length → my_fr q dp M0 M → my_st M (q + wa * A.length + wb * B.length + (wa + wb) * (i * B.length)) dp → my_A M q wa A → my_A M (q + wa * A.length) wb B → my_A M (q + wa * A.length + wb * B.length) (wa + wb) (my_pr A B i) →
      wRun (d + 1, 0, 0) mX8_paired 43 [some (.ref 650), some (.int (nI t)), some (.int (nI q)), some (.int (nI A.length)), some (.int (nI (q + wa * A.length))), some (.int (nI B.length)), some (.int (nI (q + wa * A.length + wb * B.length))), some (.int (nI i)), none] [] z M L (wQi K)
  | 0, i, M, hi, f, s, hA, hB, hP => by
    obtain ⟨t1, a1, b1, h57, h58, h56, h56a, h56b, l1, l2, hq⟩ := id h
    have ei : i = A.length := by omega
    subst ei
    have pl := my_pr_len (A := A) (B := B) (Nat.le_refl _)
    refine fX8_paired_43 ⟨fun _ => ⟨vp_in_nI t1 (by omega), ?_⟩, fun q => absurd (nI_le (Nat.le_refl _) (by omega)) q⟩
    rw [nI_clamp (show t < 2 ^ 31 by omega), f.1 656 (by omega) (by omega) (by omega), h56, pk_mul, ← pl]
    exact my_settle_r hd f s.2 hP (by omega) (by rw [pl]; omega) (fun M' f' s' hA' => wQi_i (hK M' f' s' hA'))
  | n + 1, i, M, hi, f, s, hA, hB, hP => by
    obtain ⟨t1, a1, b1, h57, h58, h56, h56a, h56b, l1, l2, hq⟩ := id h
    obtain ⟨r, hr⟩ := sl_idx (show i < A.length by omega)
    refine fX8_paired_43 ⟨fun q => absurd q (nI_ge (by omega) (by omega)), fun _ => ?_⟩
    refine my_pair_52 (d := d) (dp := dp) (by omega) h hr (fun M' f' s' a' b' p' => my_pair_43 hd h hK n (i + 1) M' (by omega) f' s' a' b' p') B.length 0 M (by omega) f s hA hB ?_
    rw [List.take_zero, List.map_nil, List.append_nil]; exact hP
theorem my_paired {t q dp : Nat} {e : sm_E} {M : wd_M} {K : Int32 → wd_Z → wd_M → wd_L → Prop} (w : sm_wf T tc nt N) (hT : ∀ k, k < nt → k < 6 ∧ (tb k).length = tr k) (ht : t < N) (hk : sm_k (T t) = 15) (hc : sm_zc T tr t ≤ 3000) (ih : my_IH T tc nt N tb tr t) (hd : 4 * t + 7 ≤ d) (hpre : my_pre T tc nt N tb tr t q dp e M)
    (hK : ∀ M' R, my_fr q dp M M' → my_st M' (q + sm_w (T t) * R.length) dp → R.Perm (sm_S T tb t e).2 → my_A M' q (sm_w (T t)) R → K (nI R.length) z M' L) : wRunI (d, 0, 0) mX8_paired [.ref 650, .int (nI t)] z M L K := by
  obtain ⟨d, rfl, hd'⟩ := ak_deep (show (4 * t + 6) + 1 ≤ d by omega)
  obtain ⟨hG, hS, hE, hq, hdp⟩ := id hpre
  have hN := hG.1
  have p := sm_wf15 (w t ht).1 hk
  have cc := sm_zcP w ht hc p.2.1.1 hk
  obtain ⟨g54, g55, g56, g57, g58, g59, g60, -⟩ := hG.2.2.1 t ht
  have e1 : my_1 (T t) = nI (sm_a (T t)) := by simp [my_1, hk]
  have e2 : my_2 (T t) = nI (sm_b (T t)) := by simp [my_2, hk]
  have alt := p.1.2.1
  have blt := p.2.1.2.1
  have hin : vp_in (nI t) 120 := vp_in_nI (by omega) (by omega)
  have w8 := (w t ht).2.1
  have zst := (sm_sizes w hT t ht hc (by rw [hk]; rfl)).2.1 (by omega)
  have own : sm_own (T t) (sm_zs T tr (sm_a (T t))) (sm_p2 (T t).2.2.2.1 (sm_zs T tr)) = sm_zs T tr (sm_a (T t)) * sm_zs T tr (sm_b (T t)) := by rw [p.2.1.1]; simp [sm_own, hk, sm_p2]
  rw [own] at zst
  refine fX8_paired_e ?_
  rw [nI_clamp (show t < 2 ^ 31 by omega), g57, e1]
  refine ⟨hin, my_bag_at w hT ht ih hpre p.1.2.1 p.1.2.2 (by omega) (my_or1 p.2.2.2) my_fr_refl hS (Nat.le_refl _) (by omega) (by omega) fun M1 A f1 s1 prA hA rl zl wl => ⟨hin, ?_⟩⟩
  rw [f1.1 658 (by omega) (by omega) (by omega), g58, e2]
  refine my_bag_at w hT ht ih hpre p.2.1.2.1 p.2.1.2.2 (by omega) (my_or2 p.2.2.2) f1 s1 (by omega) (by omega) (by omega) fun M2 B f2 s2 prB hB rl2 zl2 wl2 => ?_
  rw [hS.1, s1.1, s2.1]
  have ew : sm_w (T t) = sm_w (T (sm_a (T t))) + sm_w (T (sm_b (T t))) := p.2.2.1
  rw [ew] at hK w8
  have f12 := my_fr_trans f1 f2 (by omega) (Nat.le_refl _)
  have cnt : A.length * B.length ≤ sm_zs T tr t := by rw [zst]; exact Nat.mul_le_mul rl rl2
  have cw : (sm_w (T (sm_a (T t))) + sm_w (T (sm_b (T t)))) * (A.length * B.length) ≤ 8 * (A.length * B.length) := Nat.mul_le_mul_right _ w8
  refine my_pair_43 (dp := dp) (a := sm_a (T t)) (b := sm_b (T t)) (by omega) ⟨by omega, by omega, by omega, by rw [g57, e1], by rw [g58, e2], by rw [g56, ew], ((hG).2.2.1 _ (by omega)).2.2.1, ((hG).2.2.1 _ (by omega)).2.2.1, by omega, by omega, by omega⟩ (fun M' f' s' hA' => hK M' _ f' s' ?_ hA') A.length 0 M2 (by omega) f12 (by rw [Nat.zero_mul, Nat.mul_zero, Nat.add_zero]; exact s2) (my_rows_fr hA f2 (by omega)) hB (by unfold my_pr; rw [List.take_zero]; exact my_A_nil)
  rw [sm_S_eq w ht, sm_body15 hk]
  have := sm_apply_perm 0 0 (f := fun _ => B) (g := fun _ => (sm_S T tb (sm_b (T t)) e).2) prA (fun _ _ => prB)
  refine (List.Perm.of_eq ?_).trans this
  unfold my_pr sm_apply
  rw [List.take_length, if_pos rfl]
/-! once -/
theorem my_once_43 {q dp w k : Nat} {M : wd_M} {O : List ay_Row} {r : ay_Row} {rows : Nat} {Q : am_Q} (hw8 : w ≤ 8) (hO : my_A M q w O) (hr : sl_at (M 665) (q + w * k) r) (hrl : r.length = w) (hk : q + w * k + w ≤ 600000) (hOk : O.length ≤ k) (hOl : O.length < 100000)
    (go0 : r ∈ O → wRun (d + 1, 0, 0) mX8_onceOf 30 [some (.ref 650), none, some (.int (nI w)), some (.int (nI q)), some (.int (nI rows)), some (.int (nI O.length)), some (.int (nI (k + 1))), none, none] [] z M L Q)
    (go1 : r ∉ O → wRunV (d, 0, 0) mX8_copy [.ref 650, .int (nI (q + w * k)), .int (nI (q + w * O.length)), .int (nI w)] z M L (fun z1 M2 L3 => wRun (d + 1, 0, 0) mX8_onceOf 30 [some (.ref 650), none, some (.int (nI w)), some (.int (nI q)), some (.int (nI rows)), some (.int (nI (O.length + 1))), some (.int (nI (k + 1))), none, none] [] z1 M2 L3 Q)) :
    ∀ n j, j + n = O.length → wRun (d + 1, 0, 0) mX8_onceOf 43 [some (.ref 650), none, some (.int (nI w)), some (.int (nI q)), some (.int (nI rows)), some (.int (nI O.length)), some (.int (nI k)), some (.int (if r ∈ O.take j then 0 else 1)), some (.int (nI j))] [] z M L Q
  | 0, j, hj => by
    have ej : j = O.length := by omega
    subst ej
    rw [List.take_length]
    refine fX8_onceOf_43 ?_
    rw [pk_mul, pk_mul, nI_add, nI_add, nI_1, nI_1]
    refine ⟨fun _ => ⟨fun e => go0 ?_, fun e => go1 ?_⟩, fun q => absurd (nI_le (Nat.le_refl _) (by omega)) q⟩
    · refine Classical.byContradiction fun hn => ?_
      rw [if_neg hn] at e
      exact absurd e (by decide)
    · exact fun hn => e (if_pos hn)
  | n + 1, j, hj => by
    obtain ⟨o, ho⟩ := sl_idx (show j < O.length by omega)
    have g := my_A_row hO ho
    have wk : w * O.length ≤ w * k := Nat.mul_le_mul_left _ hOk
    have nxt := my_once_43 (dp := dp) hw8 hO hr hrl hk hOk hOl go0 go1 n (j + 1) (by omega)
    refine fX8_onceOf_43 ?_
    rw [pk_mul, pk_mul, pk_mul, nI_add, nI_add, nI_add, nI_1, nI_1, nI_1]
    refine ⟨fun q => absurd q (nI_ge (by omega) (by omega)), fun _ => ⟨fun e => ?_, fun e => ?_⟩⟩
    · have hm : r ∈ O.take j := by
        refine Classical.byContradiction fun hn => ?_
        rw [if_neg hn] at e
        exact absurd e (by decide)
      exact ⟨fun _ => go0 (List.mem_of_mem_take hm), fun q => absurd e q⟩
    · have hm : r ∉ O.take j := fun hn => e (if_pos hn)
      refine my_alike g.1 hr g.2.1 hrl (by omega) (by omega) ?_
      have es : O.take (j + 1) = O.take j ++ [o] := sl_take ho
      by_cases h : o = r
      · rw [if_pos ((my_like_all hw8 g.2.1 hrl).mpr h)]
        refine ⟨fun q => absurd q (by decide), fun _ => ?_⟩
        have : (if r ∈ O.take (j + 1) then (0 : Int32) else 1) = 0 := if_pos (by rw [es, h]; simp)
        rw [this] at nxt; exact nxt
      · rw [if_neg (fun q => h ((my_like_all hw8 g.2.1 hrl).mp q))]
        refine ⟨fun _ => ?_, fun q => absurd rfl q⟩
        have : (if r ∈ O.take (j + 1) then (0 : Int32) else 1) = 1 := if_neg (by
          rw [es, List.mem_append, List.mem_singleton]
          exact fun q => q.elim hm fun q => h q.symm)
        rw [this] at nxt; exact nxt
theorem my_once_30 {q dp w : Nat} {M0 : wd_M} {R : List ay_Row} {K : Int32 → wd_Z → wd_M → wd_L → Prop} (hd : 1 ≤ d) (hw8 : w ≤ 8) (hq : q + w * R.length ≤ 600000) (hl : R.length < 100000)
    (hK : ∀ M', my_fr q dp M0 M' → my_st M' (q + w * (sm_once R).length) dp → my_A M' q w (sm_once R) → K (nI (sm_once R).length) z M' L) :
    ∀ n k (M : wd_M), k + n = R.length → my_fr q dp M0 M → M 650 21 = nI dp → my_A M q w (sm_once (R.take k)) → my_A M (q + w * k) w (R.drop k) → wRun (d + 1, 0, 0) mX8_onceOf 30 [some (.ref 650), none, some (.int (nI w)), some (.int (nI q)), some (.int (nI R.length)), some (.int (nI (sm_once (R.take k)).length)), some (.int (nI k)), none, none] [] z M L (wQi K)
  | 0, k, M, hk, f, s, hA, hB => by
    have ek : k = R.length := by omega
    subst ek
    rw [List.take_length] at hA ⊢
    refine fX8_onceOf_30 ⟨fun _ => wQi_i ?_, fun q => absurd (nI_le (Nat.le_refl _) (by omega)) q⟩
    rw [pk_mul, nI_add]
    exact hK _ (my_fr_19 f) ⟨ak_up_same, by rw [ak_up_ne (by omega)]; exact s⟩ (my_A_fr hA fun i _ _ => by rw [ak_up_cell (by omega)])
  | n + 1, k, M, hk, f, s, hA, hB => by
    obtain ⟨r, hr⟩ := sl_idx (show k < R.length by omega)
    have hlen : k < R.length := by omega
    have ed : R.drop k = [r] ++ R.drop (k + 1) := by
      rw [List.drop_eq_getElem_cons hlen]
      rw [List.getElem?_eq_getElem hlen] at hr
      rw [Option.some.inj hr]; rfl
    rw [ed, my_A_app, my_A_one] at hB
    obtain ⟨⟨hrl, hrs⟩, hB2⟩ := hB
    have e1 : w * (k + 1) = w * k + w := Nat.mul_succ _ _
    have hB2 : my_A M (q + w * (k + 1)) w (R.drop (k + 1)) := by
      have : q + w * (k + 1) = q + w * k + w * [r].length := by rw [e1]; show _ = q + w * k + w * 1; omega
      rw [this]; exact hB2
    have lt := my_lt (w := w) hlen
    have ol : (sm_once (R.take k)).length ≤ k := Nat.le_trans (sm_once_len _) (by rw [List.length_take]; omega)
    have olw : w * (sm_once (R.take k)).length ≤ w * k := Nat.mul_le_mul_left _ ol
    have es := sm_once_snoc (R.take k) r
    rw [← sl_take hr] at es
    refine fX8_onceOf_30 ⟨fun q => absurd q (nI_ge (by omega) (by omega)), fun _ => ?_⟩
    refine my_once_43 (d := d) (dp := dp) hw8 hA hrs hrl (by omega) ol (by omega) (fun hm => ?_) (fun hm => ?_) (sm_once (R.take k)).length 0 (by omega)
    · have es : sm_once (R.take (k + 1)) = sm_once (R.take k) := es.trans (if_pos hm)
      have := my_once_30 hd hw8 hq hl hK n (k + 1) M (by omega) f s (by rw [es]; exact hA) hB2
      rw [es] at this; exact this
    · have es : sm_once (R.take (k + 1)) = sm_once (R.take k) ++ [r] := es.trans (if_neg hm)
      refine my_copy hd (by omega) (by omega) ?_
      have := my_once_30 hd hw8 hq hl hK n (k + 1) (am_copy M 665 665 (q + w * k) (q + w * (sm_once (R.take k)).length) w) (by omega) (my_fr_copy f (by omega)) (by rw [ak_cp_cell (by omega)]; exact s) ?_ (my_A_fr hB2 fun i i1 i2 => by rw [ak_cp_own, pk_cpy_out (by omega)])
      · rw [es, List.length_append] at this; exact this
      · rw [es]
        refine my_A_snoc (my_A_fr hA fun i i1 i2 => by rw [ak_cp_own, pk_cpy_out (by omega)]) hrl rfl ?_
        rw [ak_cp_own]; exact sl_cpy_in hrs hrl
theorem my_onceOf {t q dp : Nat} {e : sm_E} {M : wd_M} {K : Int32 → wd_Z → wd_M → wd_L → Prop} (w : sm_wf T tc nt N) (hT : ∀ k, k < nt → k < 6 ∧ (tb k).length = tr k) (ht : t < N) (hk : sm_k (T t) = 18) (hc : sm_zc T tr t ≤ 3000) (ih : my_IH T tc nt N tb tr t) (hd : 4 * t + 7 ≤ d) (hpre : my_pre T tc nt N tb tr t q dp e M)
    (hK : ∀ M' R, my_fr q dp M M' → my_st M' (q + sm_w (T t) * R.length) dp → R.Perm (sm_S T tb t e).2 → my_A M' q (sm_w (T t)) R → K (nI R.length) z M' L) : wRunI (d, 0, 0) mX8_onceOf [.ref 650, .int (nI t)] z M L K := by
  obtain ⟨d, rfl, hd'⟩ := ak_deep (show (4 * t + 6) + 1 ≤ d by omega)
  obtain ⟨hG, hS, hE, hq, hdp⟩ := id hpre
  have hN := hG.1
  have p := sm_wf18 (w t ht).1 hk
  have cc := sm_zc1 w ht hc p.2.1 (by omega) (by omega) (by rw [hk]; rfl) (by omega)
  obtain ⟨g54, g55, g56, g57, g58, g59, g60, -⟩ := hG.2.2.1 t ht
  have e1 : my_1 (T t) = nI (sm_a (T t)) := by simp [my_1, hk]
  have alt := p.1.2.1
  have hin : vp_in (nI t) 120 := vp_in_nI (by omega) (by omega)
  have w8 := (w t ht).2.1
  have ew : sm_w (T t) = sm_w (T (sm_a (T t))) := p.2.2.1
  refine fX8_onceOf_e ?_
  rw [nI_clamp (show t < 2 ^ 31 by omega), g57, e1, g56, hS.1]
  refine ⟨hin, hin, my_bag_at w hT ht ih hpre p.1.2.1 p.1.2.2 (by omega) (fun k h => by rw [p.2.2.2]; exact h) my_fr_refl hS (Nat.le_refl _) (by omega) (by omega) fun M1 R f1 s1 pr hA rl zl wl => ?_⟩
  rw [ew] at hK w8 ⊢
  exact my_once_30 (dp := dp) (by omega) w8 (by omega) (by omega) (fun M' f' s' hA' => hK M' _ f' s' (by
    rw [sm_S_eq w ht, sm_body18 hk]
    exact sm_once_perm pr) hA') R.length 0 M1 (by omega) f1 s1.2 (by rw [List.take_zero]; exact my_A_nil) (by rw [List.drop_zero]; exact hA)
/-! first -/
theorem my_firstOf {t q dp : Nat} {e : sm_E} {M : wd_M} {K : Int32 → wd_Z → wd_M → wd_L → Prop} (w : sm_wf T tc nt N) (hT : ∀ k, k < nt → k < 6 ∧ (tb k).length = tr k) (ht : t < N) (hk : sm_k (T t) = 19) (hc : sm_zc T tr t ≤ 3000) (ih : my_IH T tc nt N tb tr t) (hd : 4 * t + 7 ≤ d) (hpre : my_pre T tc nt N tb tr t q dp e M)
    (hK : ∀ M' R, my_fr q dp M M' → my_st M' (q + sm_w (T t) * R.length) dp → R.Perm (sm_S T tb t e).2 → my_A M' q (sm_w (T t)) R → K (nI R.length) z M' L) : wRunI (d, 0, 0) mX8_firstOf [.ref 650, .int (nI t)] z M L K := by
  obtain ⟨d, rfl, hd'⟩ := ak_deep (show (4 * t + 6) + 1 ≤ d by omega)
  obtain ⟨hG, hS, hE, hq, hdp⟩ := id hpre
  have hN := hG.1
  have p := sm_wf19 (w t ht).1 hk
  obtain ⟨n, n1, n2, n3⟩ := p.2.2.2.2
  have cc := sm_zc1 w ht hc p.2.1 (by omega) (by omega) (by rw [hk]; rfl) (by omega)
  obtain ⟨g54, g55, g56, g57, g58, g59, g60, -⟩ := hG.2.2.1 t ht
  have e1 : my_1 (T t) = nI (sm_a (T t)) := by simp [my_1, hk]
  have e2 : my_2 (T t) = nI n := by simp [my_2, hk, n3]
  have alt := p.1.2.1
  have hin : vp_in (nI t) 120 := vp_in_nI (by omega) (by omega)
  have w1 := (w t ht).2.2.2 (by omega)
  have ew : sm_w (T t) = sm_w (T (sm_a (T t))) := p.2.2.1
  refine fX8_firstOf_e ?_
  rw [nI_clamp (show t < 2 ^ 31 by omega), g57, e1, hS.1]
  refine ⟨hin, my_bag_at w hT ht ih hpre p.1.2.1 p.1.2.2 (by omega) (fun k h => by rw [p.2.2.2.1]; exact h) my_fr_refl hS (Nat.le_refl _) (by omega) (by omega) fun M1 R f1 s1 pr hA rl zl wl => ?_⟩
  rw [f1.1 656 (by omega) (by omega) (by omega), f1.1 658 (by omega) (by omega) (by omega), g56, g58, e2]
  rw [ew] at hK w1 ⊢
  refine ⟨hin, hin, my_order (by omega) w1 (by omega) (by omega) hA fun M2 R' hA' pr' htk h1 h2 => ?_⟩
  have f2 : my_fr q dp M M2 := my_fr_sort f1 h1 fun x hx => h2 x (Or.inl hx)
  rw [h1 658 (by omega), h1 656 (by omega), f1.1 656 (by omega) (by omega) (by omega), f1.1 658 (by omega) (by omega) (by omega), g56, g58, e2, ew, pk_mul, pk_mul, nI_add, nI_add]
  have hl' := pr'.length_eq
  have tl : (R'.take n).length = min n R.length := by rw [List.length_take, hl']
  have fin : ∀ m, m = min n R.length → K (nI m) z (am_up2 M2 650 19 (nI (q + sm_w (T (sm_a (T t))) * m))) L := fun m hm => by
    have := hK (am_up2 M2 650 19 (nI (q + sm_w (T (sm_a (T t))) * m))) (R'.take n) (my_fr_19 f2) (by rw [tl, ← hm]; exact ⟨ak_up_same, by rw [ak_up_ne (by omega), h1 650 (by omega)]; exact s1.2⟩) ?_ (my_A_fr (my_A_take hA') fun i _ _ => by rw [ak_up_cell (by omega)])
    · rw [tl, ← hm] at this; exact this
    · rw [sm_S_eq w ht, sm_body19 hk, n3, nI_clamp (by omega)]
      refine List.Perm.of_eq ?_
      show R'.take n = sm_first n _
      unfold sm_first
      rw [htk, sm_srt_congr pr]
  refine ⟨hin, fun h => ⟨hin, hin, wQi_i (fin n ?_)⟩, fun h => ⟨hin, wQi_i (fin R.length ?_)⟩⟩
  · have := (nI_leI (by omega) (by omega)).mp h; omega
  · have : ¬ n ≤ R.length := fun q => h (nI_le q (by omega))
    omega
end MY
