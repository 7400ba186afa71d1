/-! CONTRACTS of ApplyFreeModel: apply -/
theorem sm_apply_app (k wb : Nat) (X Y : List ay_Row) (f : ay_Row → List ay_Row) : sm_apply k wb (X ++ Y) f = sm_apply k wb X f ++ sm_apply k wb Y f := by
  unfold sm_apply
  repeat' split
  all_goals first | exact List.flatMap_append | exact List.filter_append ..
theorem sm_apply_0 {wb : Nat} {r : ay_Row} {g : ay_Row → List ay_Row} : sm_apply 0 wb [r] g = (g r).map fun s => r ++ s := by
  unfold sm_apply
  rw [if_pos rfl, List.flatMap_cons, List.flatMap_nil, List.append_nil]
theorem sm_apply_1 {wb : Nat} {r : ay_Row} {g : ay_Row → List ay_Row} : sm_apply 1 wb [r] g = if g r = [] then [r ++ List.replicate wb (-2147483648 : Int32)] else (g r).map fun s => r ++ s := by
  unfold sm_apply
  rw [if_neg (by omega), if_pos rfl, List.flatMap_cons, List.flatMap_nil, List.append_nil]
theorem sm_apply_23 {k wb : Nat} {r : ay_Row} {g : ay_Row → List ay_Row} (hk : k = 2 ∨ k = 3) : sm_apply k wb [r] g = if ((g r = []) ↔ k = 3) then [r] else [] := by
  unfold sm_apply
  rcases hk with rfl | rfl
  · rw [if_neg (by omega), if_neg (by omega), if_pos rfl, List.filter_cons, List.filter_nil]
    cases h : g r <;> simp
  · rw [if_neg (by omega), if_neg (by omega), if_neg (by omega), List.filter_cons, List.filter_nil]
    cases h : g r <;> simp
section MY
variable {T : Nat → sm_T} {tc : Nat → Nat} {nt N : Nat} {tb : Nat → List ay_Row} {tr : Nat → Nat} {d : Nat} {z : wd_Z} {L : wd_L}
abbrev my_al (t q rows wa wb made n k : Nat) (tl : am_AL) : am_AL := some (.ref 650) :: some (.int (nI t)) :: some (.int (nI q)) :: some (.int (nI rows)) :: some (.int (nI wa)) :: some (.int (nI wb)) :: some (.int (nI made)) :: some (.int (nI n)) :: some (.int (nI k)) :: tl
/-- rows make room for those before them -/
theorem my_spread {t q rows wa wb made n k at' pr : Nat} {M0 : wd_M} {B : List ay_Row} {r : ay_Row} {Q : am_Q} (hd : 1 ≤ d) (hrl : r.length = wa) (hp : pr + wa ≤ at') (hcap : at' + (wa + wb) * B.length ≤ 600000) (hpr : pr = q + wa * k) (hBW : sl_W wb B) (hBl : B.length < 100000)
    (go : ∀ M', (∀ c, c ≠ 665 → M' c = M0 c) → (∀ i, i < at' → M' 665 i = M0 665 i) → my_A M' at' (wa + wb) (B.map fun s => r ++ s) → wRun (d + 1, 0, 0) mX8_applied 179 (my_al t q rows wa wb made n k [some (.int (nI at')), some (.int (nI B.length)), some (.int (nI 0 - 1))]) [] z M' L Q) :
    ∀ m (M : wd_M), m ≤ B.length → (∀ c, c ≠ 665 → M c = M0 c) → (∀ i, i < at' → M 665 i = M0 665 i) → sl_at (M 665) pr r → (∀ i s, i < m → B[i]? = some s → sl_at (M 665) (at' + wb * i) s) → (∀ i s, m ≤ i → B[i]? = some s → sl_at (M 665) (at' + (wa + wb) * i) (r ++ s)) →
      wRun (d + 1, 0, 0) mX8_applied 179 (my_al t q rows wa wb made n k [some (.int (nI at')), some (.int (nI B.length)), some (.int (nI m - 1))]) [] z M L Q
  | 0, M, hm, h1, h2, hr, hlo, hhi => by
    refine go M h1 h2 (my_A_of (fun x hx => ?_) fun i x hx => ?_)
    · obtain ⟨s, hs, rfl⟩ := List.mem_map.mp hx
      rw [List.length_append, hrl, hBW s hs]
    · rw [List.getElem?_map] at hx
      cases hb : B[i]? with
      | none => rw [hb] at hx; cases hx
      | some s =>
        rw [hb] at hx
        cases hx
        exact hhi i s (by omega) hb
  | m + 1, M, hm, h1, h2, hr, hlo, hhi => by
    obtain ⟨s, hs⟩ := sl_idx (show m < B.length by omega)
    have lt := my_lt (w := wa + wb) (show m < B.length by omega)
    have dst : (wa + wb) * m = wa * m + wb * m := Nat.add_mul _ _ _
    have sl := sl_W_at hBW hs
    refine fX8_applied_179 ?_
    rw [nI_pred]
    refine ⟨fun q => absurd q (nI_pos (by omega)), fun _ => ?_⟩
    rw [pk_mul, nI_add, nI_add, pk_mul, nI_add, nI_add, pk_mul, nI_add]
    refine my_copy hd (by omega) (by omega) ?_
    generalize hM1 : am_copy M 665 665 (at' + wb * m) (at' + (wa + wb) * m + wa) wb = M1
    refine my_copy hd (by omega) (by omega) ?_
    generalize hM2 : am_copy M1 665 665 (q + wa * k) (at' + (wa + wb) * m) wa = M2
    have o1 : ∀ x, x < at' + (wa + wb) * m + wa ∨ at' + (wa + wb) * m + wa + wb ≤ x → M1 665 x = M 665 x := fun x hx => by rw [← hM1, ak_cp_own, pk_cpy_out hx]
    have o2 : ∀ x, x < at' + (wa + wb) * m ∨ at' + (wa + wb) * m + wa ≤ x → M2 665 x = M1 665 x := fun x hx => by rw [← hM2, ak_cp_own, pk_cpy_out hx]
    have em : nI m + (-1 : Int32) = nI m - 1 := (Int32.sub_eq_add_neg _ _).symm
    rw [em]
    refine my_spread hd hrl hp hcap hpr hBW hBl go m M2 (by omega) (fun c hc => by rw [← hM2, ak_cp_cell hc, ← hM1, ak_cp_cell hc]; exact h1 c hc) (fun i hi => by rw [o2 i (by omega), o1 i (by omega)]; exact h2 i hi) (sl_congr hr fun i hi => by rw [o2 _ (by omega), o1 _ (by omega)]) (fun i s' hi hs' => ?_) (fun i s' hi hs' => ?_)
    · have lt' := my_lt (w := wb) hi
      have sl' := sl_W_at hBW hs'
      exact sl_congr (hlo i s' (by omega) hs') fun x hx => by rw [o2 _ (by omega), o1 _ (by omega)]
    · by_cases e : i = m
      · subst e
        have : s' = s := by rw [hs] at hs'; exact (Option.some.inj hs').symm
        subst this
        rw [sl_app, hrl]
        refine ⟨?_, ?_⟩
        · rw [← hM2, ak_cp_own]
          refine sl_cpy_in (sl_congr (hpr ▸ hr) fun x hx => ?_) hrl
          rw [o1 _ (by omega)]
        · have : sl_at (M1 665) (at' + (wa + wb) * i + wa) s' := by
            rw [← hM1, ak_cp_own]
            exact sl_cpy_in (hlo i s' (by omega) hs) sl
          exact sl_congr this fun x hx => o2 _ (by omega)
      · have lt' := my_lt (w := wa + wb) (show m < i by omega)
        exact sl_congr (hhi i s' (by omega) hs') fun x hx => by rw [o2 _ (by omega), o1 _ (by omega)]
theorem my_nulls {t q rows wa wb made n k at' : Nat} {M0 : wd_M} {r : ay_Row} {Q : am_Q} (hrl : r.length = wa) (hcap : at' + (wa + wb) ≤ 600000)
    (go : ∀ M', (∀ c, c ≠ 665 → M' c = M0 c) → (∀ i, i < at' → M' 665 i = M0 665 i) → my_A M' at' (wa + wb) [r ++ List.replicate wb (-2147483648 : Int32)] → wRun (d + 1, 0, 0) mX8_applied 306 (my_al t q rows wa wb made n k [some (.int (nI at')), some (.int 1), none]) [] z M' L Q) :
    ∀ m c (M : wd_M), c + m = wb → (∀ c, c ≠ 665 → M c = M0 c) → (∀ i, i < at' → M 665 i = M0 665 i) → sl_at (M 665) at' (r ++ List.replicate c (-2147483648 : Int32)) → wRun (d + 1, 0, 0) mX8_applied 275 (my_al t q rows wa wb made n k [some (.int (nI at')), none, some (.int (nI c))]) [] z M L Q
  | 0, c, M, hc, h1, h2, h3 => by
    have ec : c = wb := by omega
    subst ec
    refine fX8_applied_275 ⟨fun _ => go M h1 h2 (my_A_one.mpr ⟨by rw [List.length_append, List.length_replicate, hrl], h3⟩), fun q => absurd (nI_le (Nat.le_refl _) (by omega)) q⟩
  | m + 1, c, M, hc, h1, h2, h3 => by
    refine fX8_applied_275 ?_
    rw [nI_add, nI_add, nI_1, nI_clamp (show at' + wa + c < 2 ^ 31 by omega)]
    refine ⟨fun q => absurd q (nI_ge (by omega) (by omega)), fun _ => ⟨vp_in_nI (by omega) (by omega), ?_⟩⟩
    refine my_nulls hrl hcap go m (c + 1) _ (by omega) (fun c hc => by rw [ak_up_cell hc]; exact h1 c hc) (fun i hi => by rw [ak_up_ne (by omega)]; exact h2 i hi) ?_
    have tl : (r ++ List.replicate c (-2147483648 : Int32)).length = wa + c := by rw [List.length_append, List.length_replicate, hrl]
    rw [List.replicate_succ', ← List.append_assoc, sl_app, ak_up_own, tl]
    exact ⟨sl_upd h3 (by rw [tl]; omega), sl_one.mpr (by rw [← Nat.add_assoc, pk_us])⟩
/-- what apply has at hand -/
def my_ah (M0 : wd_M) (t kind wa wb wt q : Nat) (A : List ay_Row) (g : ay_Row → List ay_Row) : Prop :=
  t < 120 ∧ kind ≤ 3 ∧ wt = (if kind < 2 then wa + wb else wa) ∧ M0 656 t = nI wt ∧ M0 658 t = nI (sm_b (T t)) ∧ M0 659 t = nI kind ∧ A.length < 10000 ∧ (sm_apply kind wb A g).length < 10000 ∧ q + wa * A.length + wt * (sm_apply kind wb A g).length ≤ 600000
theorem my_appl_54 {t kind wa wb wt q dp : Nat} {M0 : wd_M} {A : List ay_Row} {g : ay_Row → List ay_Row} {K : Int32 → wd_Z → wd_M → wd_L → Prop} (hd : 2 ≤ d) (hdp : dp < 130) (h : my_ah (T := T) M0 t kind wa wb wt q A g)
    (ev : ∀ (M1 : wd_M) r p q1 (K : Int32 → wd_Z → wd_M → wd_L → Prop), my_fr q dp M0 M1 → my_st M1 q1 dp → q + wa * A.length ≤ q1 → q1 ≤ q + wa * A.length + wt * (sm_apply kind wb A g).length → sl_at (M1 665) p r → r ∈ A → p + wa ≤ q1 → (∀ M2 B, my_fr q1 (dp + 1) (my_ent M1 dp p) M2 → my_st M2 (q1 + wb * B.length) (dp + 1) → B.Perm (g r) → my_A M2 q1 wb B → B.length < 10000 → K (nI B.length) z M2 L) → wRunI (d, 0, 0) mX8_bag [.ref 650, .int (nI (sm_b (T t)))] z (my_ent M1 dp p) L K)
    (hK : ∀ M' O, my_fr q dp M0 M' → my_st M' (q + wt * O.length) dp → O.Perm (sm_apply kind wb A g) → my_A M' q wt O → K (nI O.length) z M' L) :
    ∀ n k (M : wd_M) (O : List ay_Row), k + n = A.length → my_fr q dp M0 M → O.Perm (sm_apply kind wb (A.take k) g) → my_st M (q + wa * A.length + wt * O.length) dp → my_A M q wa A → my_A M (q + wa * A.length) wt O → wRun (d + 1, 0, 0) mX8_applied 54 (my_al t q A.length wa wb (q + wa * A.length) O.length k [none, none, none]) [] z M L (wQi K)
  | 0, k, M, O, hk, f, hO, s, hA, hP => by
    obtain ⟨t1, k3, ewt, h56, h58, h59, l1, l2, hq⟩ := id h
    have ek : k = A.length := by omega
    subst ek
    rw [List.take_length] at hO
    have ol := hO.length_eq
    refine fX8_applied_54 ⟨fun _ => ⟨vp_in_nI t1 (by omega), ?_⟩, fun q => absurd (nI_le (Nat.le_refl _) (by omega)) q⟩
    rw [nI_clamp (show t < 2 ^ 31 by omega), f.1 656 (by omega) (by omega) (by omega), h56]
    exact my_settle_r hd f s.2 hP (by omega) (by rw [ol]; exact hq) (fun M' f' s' hA' => wQi_i (hK M' O f' s' hO hA'))
  | n + 1, k, M, O, hk, f, hO, s, hA, hP => by
    obtain ⟨t1, k3, ewt, h56, h58, h59, l1, l2, hq⟩ := id h
    have hlen : k < A.length := by omega
    obtain ⟨r, hr⟩ := sl_idx hlen
    have gr := my_A_row hA hr
    have it : vp_in (nI t) 120 := vp_in_nI t1 (by omega)
    have ol := hO.length_eq
    have es : sm_apply kind wb (A.take (k + 1)) g = sm_apply kind wb (A.take k) g ++ sm_apply kind wb [r] g := by rw [sl_take hr, sm_apply_app]
    have full : (sm_apply kind wb (A.take k) g).length + (sm_apply kind wb [r] g).length ≤ (sm_apply kind wb A g).length := by
      have : sm_apply kind wb A g = sm_apply kind wb (A.take (k + 1)) g ++ sm_apply kind wb (A.drop (k + 1)) g := by rw [← sm_apply_app, List.take_append_drop]
      rw [this, List.length_append, es, List.length_append]; omega
    have ow : wt * O.length + wt * (sm_apply kind wb [r] g).length ≤ wt * (sm_apply kind wb A g).length := by
      rw [← Nat.mul_add]; exact Nat.mul_le_mul_left _ (by omega)
    generalize hat : q + wa * A.length + wt * O.length = at' at *
    -- the next row, with what was put to it
    have nxt : ∀ (M' : wd_M) (X : List ay_Row), X.Perm (sm_apply kind wb [r] g) → my_fr q dp M0 M' → my_st M' (at' + wt * X.length) dp → (∀ i, i < at' → M' 665 i = M 665 i) → my_A M' at' wt X → wRun (d + 1, 0, 0) mX8_applied 328 (my_al t q A.length wa wb (q + wa * A.length) (O.length + X.length) k [none, none, none]) [] z M' L (wQi K) := fun M' X hX f' s' e' hX' => by
      refine fX8_applied_328 ?_
      rw [nI_1]
      have := my_appl_54 hd hdp h ev hK n (k + 1) M' (O ++ X) (by omega) f' (by rw [es]; exact hO.append hX) (by rw [List.length_append, Nat.mul_add, ← Nat.add_assoc, hat]; exact s') (my_A_fr hA fun i _ i2 => e' i (by omega)) (my_A_app.mpr ⟨my_A_fr hP fun i _ i2 => e' i (by omega), by rw [hat]; exact hX'⟩)
      rw [List.length_append] at this; exact this
    refine fX8_applied_54 ?_
    rw [pk_mul, nI_add, nI_clamp (show t < 2 ^ 31 by omega)]
    refine ⟨fun q => absurd q (nI_ge (by omega) (by omega)), fun _ => my_enter s.2 hdp ⟨it, ?_⟩⟩
    rw [ak_up_cell (by omega), ak_up_cell (by omega), f.1 658 (by omega) (by omega) (by omega), h58]
    refine ev M r _ at' _ f s (by omega) (by omega) gr.1 (List.mem_of_getElem? hr) (by omega) fun M2 B f2 s2 hB hBA hBl => ⟨it, ?_⟩
    obtain ⟨f3, s3⟩ := my_leave f2 s2
    have B3 : my_A (am_up2 M2 650 21 (M2 650 21 - 1)) at' wb B := my_A_fr hBA fun i _ _ => by rw [ak_up_cell (by omega)]
    generalize am_up2 M2 650 21 (M2 650 21 - 1) = M3 at f3 s3 B3
    have f03 : my_fr q dp M0 M3 := my_fr_trans f f3 (by omega) (Nat.le_refl _)
    have r3 : sl_at (M3 665) (q + wa * k) r := sl_congr gr.1 fun i hi => f3.2.2.1 _ (by omega)
    have m59 : ∀ {M' : wd_M}, my_fr q dp M0 M' → M' 659 t = nI kind := fun f' => by rw [f'.1 659 (by omega) (by omega) (by omega)]; exact h59
    rw [m59 f03, s.1]
    have bl := hB.length_eq
    refine ⟨fun hle => ?_, fun hle => ?_⟩
    · -- rows beside rows
      have k1 : kind ≤ 1 := (nI_leI (b := 1) (by omega) (by omega)).mp hle
      have ewt : wt = wa + wb := by rw [ewt, if_pos (by omega)]
      have fin : ∀ (M' : wd_M) (X : List ay_Row) (x10 : Int32), x10 = nI X.length → X.Perm (sm_apply kind wb [r] g) → (∀ c, c ≠ 665 → M' c = M3 c) → (∀ i, i < at' → M' 665 i = M3 665 i) → my_A M' at' wt X → wRun (d + 1, 0, 0) mX8_applied 306 (my_al t q A.length wa wb (q + wa * A.length) O.length k [some (.int (nI at')), some (.int x10), none]) [] z M' L (wQi K) := fun M' X x10 ex hX g1 g2 gX => by
        subst ex
        refine fX8_applied_306 ?_
        rw [nI_add, nI_add, pk_mul, nI_add, ← ewt]
        refine nxt _ X hX (my_fr_19 (my_fr_sort f03 g1 fun i hi => g2 i (by omega))) ⟨ak_up_same, by rw [ak_up_ne (by omega), g1 650 (by omega)]; exact s3.2⟩ (fun i hi => ?_) (my_A_fr gX fun i _ _ => by rw [ak_up_cell (by omega)])
        rw [ak_up_cell (by omega), g2 i hi, f3.2.2.1 i hi]
      have cap : B.length ≤ (sm_apply kind wb [r] g).length := by
        rw [bl]
        have : kind = 0 ∨ kind = 1 := by omega
        rcases this with rfl | rfl
        · rw [sm_apply_0, List.length_map]; exact Nat.le_refl _
        · rw [sm_apply_1]
          split
          · rename_i h0; rw [h0]; simp
          · rw [List.length_map]; exact Nat.le_refl _
      have capw : (wa + wb) * B.length ≤ wt * (sm_apply kind wb [r] g).length := by rw [← ewt]; exact Nat.mul_le_mul_left _ cap
      refine my_spread (M0 := M3) (r := r) (B := B) (pr := q + wa * k) (by omega) gr.2.1 (by omega) (by omega) rfl hBA.1 (by omega) (fun M4 g1 g2 gX => ?_) B.length M3 (Nat.le_refl _) (fun _ _ => rfl) (fun _ _ => rfl) r3 (fun i s' _ hs' => (my_A_row B3 hs').1) (fun i s' hi hs' => by
        have := (List.getElem?_eq_some_iff.mp hs').1; omega)
      have f04 : my_fr q dp M0 M4 := my_fr_sort f03 g1 fun i hi => g2 i (by omega)
      refine fX8_applied_179 ?_
      rw [nI_clamp (show t < 2 ^ 31 by omega), m59 f04, pk_mul, nI_add]
      refine ⟨fun _ => ⟨fun h0 => ⟨it, fun h1 => ?_, fun h1 => ?_⟩, fun h0 => ?_⟩, fun q => absurd (by decide) q⟩
      · have B0 : B = [] := List.eq_nil_of_length_eq_zero ((nI_eq (by omega) (by omega)).mp h0)
        have k1 : kind = 1 := (nI_eq (b := 1) (by omega) (by omega)).mp h1
        have g0 : g r = [] := (sm_nil_perm hB).mp B0
        have one : sm_apply kind wb [r] g = [r ++ List.replicate wb (-2147483648 : Int32)] := by rw [k1, sm_apply_1, if_pos g0]
        have capw1 : wa + wb ≤ wt * (sm_apply kind wb [r] g).length := by rw [one, ← ewt]; show wt ≤ wt * 1; omega
        refine my_copy (by omega) (by omega) (by omega) ?_
        refine my_nulls (M0 := M4) (r := r) gr.2.1 (by omega) (fun M5 g3 g4 gX5 => fin M5 [r ++ List.replicate wb (-2147483648 : Int32)] 1 rfl (by rw [one]) (fun c hc => by rw [g3 c hc, g1 c hc]) (fun i hi => by rw [g4 i hi, g2 i hi]) (by rw [ewt]; exact gX5)) wb 0 _ (by omega) (fun c hc => by rw [ak_cp_cell hc]) (fun i hi => by rw [ak_cp_own, pk_cpy_out (by omega)]) ?_
        rw [List.replicate_zero, List.append_nil, ak_cp_own]
        exact sl_cpy_in (sl_congr r3 fun i hi => g2 _ (by omega)) gr.2.1
      · have B0 : B = [] := List.eq_nil_of_length_eq_zero ((nI_eq (by omega) (by omega)).mp h0)
        have k0 : kind = 0 := by
          have : ¬ kind = 1 := fun e => h1 (by rw [e]; rfl)
          omega
        have g0 : g r = [] := (sm_nil_perm hB).mp B0
        refine fin M4 [] _ (by rw [B0]) (by rw [k0, sm_apply_0, g0]; exact List.Perm.refl _) g1 g2 my_A_nil
      · have B0 : B ≠ [] := fun e => h0 (by rw [e]; rfl)
        have g0 : g r ≠ [] := fun e => B0 ((sm_nil_perm hB).mpr e)
        refine fin M4 (B.map fun s => r ++ s) _ (by rw [List.length_map]) ?_ g1 g2 (by rw [ewt]; exact gX)
        have : kind = 0 ∨ kind = 1 := by omega
        rcases this with rfl | rfl
        · rw [sm_apply_0]; exact hB.map _
        · rw [sm_apply_1, if_neg g0]; exact hB.map _
    · -- rows that have some, or none
      have k2 : kind = 2 ∨ kind = 3 := by
        have : ¬ kind ≤ 1 := fun e => hle (nI_le (b := 1) e (by omega))
        omega
      have ewt : wt = wa := by rw [ewt, if_neg (by omega)]
      have f4 : my_fr q dp M0 (am_up2 M3 650 19 (nI at')) := my_fr_19 f03
      have s4 : my_st (am_up2 M3 650 19 (nI at')) at' dp := ⟨ak_up_same, by rw [ak_up_ne (by omega)]; exact s3.2⟩
      have e4 : ∀ i, (am_up2 M3 650 19 (nI at')) 665 i = M3 665 i := fun i => by rw [ak_up_cell (by omega)]
      generalize am_up2 M3 650 19 (nI at') = M4 at f4 s4 e4
      have o23 := sm_apply_23 (wb := wb) (r := r) (g := g) k2
      have c140 : ∀ s0 s1 : Int32, (s1 = s0 ↔ ((g r = []) ↔ kind = 3)) → wRun (d + 1, 0, 0) mX8_applied 140 (my_al t q A.length wa wb (q + wa * A.length) O.length k [some (.int (nI at')), none, none]) [.int s1, .int s0] z M4 L (wQi K) := fun s0 s1 hs => by
        refine fX8_applied_140 ?_
        rw [pk_mul, nI_add, nI_add, nI_1]
        refine ⟨fun e => ?_, fun e => ?_⟩
        · rw [if_pos (hs.mp e.symm)] at o23
          have capw : wa ≤ wt * (sm_apply kind wb [r] g).length := by rw [o23, ← ewt]; show wt ≤ wt * 1; omega
          refine my_copy (by omega) (by omega) (by omega) ?_
          refine nxt _ [r] (by rw [o23]) (my_fr_19 (my_fr_copy f4 (by omega))) ⟨by rw [ak_up_same, ewt, List.length_singleton, Nat.mul_one], by rw [ak_up_ne (by omega), ak_cp_cell (by omega)]; exact s4.2⟩ (fun i hi => ?_) (my_A_one.mpr ⟨by rw [gr.2.1, ewt], ?_⟩)
          · rw [ak_up_cell (by omega), ak_cp_own, pk_cpy_out (by omega), e4, f3.2.2.1 i hi]
          · rw [ak_up_cell (by omega), ak_cp_own]
            exact sl_cpy_in (sl_congr r3 fun i hi => e4 _) gr.2.1
        · rw [if_neg (fun q => e (hs.mpr q).symm)] at o23
          exact nxt M4 [] (by rw [o23]) f4 s4 (fun i hi => by rw [e4, f3.2.2.1 i hi]) my_A_nil
      have c125 : ∀ s0 : Int32, (s0 = 0 ∧ g r = [] ∨ s0 = 1 ∧ g r ≠ []) → wRun (d + 1, 0, 0) mX8_applied 125 (my_al t q A.length wa wb (q + wa * A.length) O.length k [some (.int (nI at')), none, none]) [.int s0] z M4 L (wQi K) := fun s0 hs => by
        refine fX8_applied_125 ?_
        rw [nI_clamp (show t < 2 ^ 31 by omega), m59 f4]
        refine ⟨it, fun e => c140 _ _ ?_, fun e => c140 _ _ ?_⟩
        · have e2 : kind = 2 := (nI_eq (b := 2) (by omega) (by omega)).mp e
          rcases hs with ⟨rfl, hg⟩ | ⟨rfl, hg⟩
          · simp [hg, e2]
          · simp [hg, e2]
        · have e3 : kind = 3 := by
            have : ¬ kind = 2 := fun q => e (by rw [q]; rfl)
            omega
          rcases hs with ⟨rfl, hg⟩ | ⟨rfl, hg⟩
          · simp [hg, e3]
          · simp [hg, e3]
      refine ⟨fun e => c125 0 (Or.inl ⟨rfl, ?_⟩), fun e => c125 1 (Or.inr ⟨rfl, ?_⟩)⟩
      · have := (nI_leI (b := 0) (show B.length < 2 ^ 31 by omega) (by omega)).mp e
        exact (sm_nil_perm hB).mp (List.eq_nil_of_length_eq_zero (by omega))
      · intro g0
        have : B = [] := (sm_nil_perm hB).mpr g0
        exact e (by rw [this]; decide)
theorem my_applied {t q dp : Nat} {e : sm_E} {M : wd_M} {K : Int32 → wd_Z → wd_M → wd_L → Prop} (w : sm_wf T tc nt N) (hT : ∀ k, k < nt → k < 6 ∧ (tb k).length = tr k) (ht : t < N) (hk : sm_k (T t) = 16) (hc : sm_zc T tr t ≤ 3000) (ih : my_IH T tc nt N tb tr t) (hd : 4 * t + 7 ≤ d) (hpre : my_pre T tc nt N tb tr t q dp e M)
    (hK : ∀ M' R, my_fr q dp M M' → my_st M' (q + sm_w (T t) * R.length) dp → R.Perm (sm_S T tb t e).2 → my_A M' q (sm_w (T t)) R → K (nI R.length) z M' L) : wRunI (d, 0, 0) mX8_applied [.ref 650, .int (nI t)] z M L K := by
  obtain ⟨d, rfl, hd'⟩ := ak_deep (show (4 * t + 6) + 1 ≤ d by omega)
  obtain ⟨hG, hS, hE, hq, hdp⟩ := id hpre
  have hN := hG.1
  have p := sm_wf16 (w t ht).1 hk
  have cc := sm_zcI w ht hc p.2.1.1 (by omega) (by omega) (by rw [hk]; rfl)
  have cb : sm_zc T tr (sm_b (T t)) ≤ (sm_zs T tr (sm_a (T t)) + 1) * sm_zc T tr (sm_b (T t)) := Nat.le_mul_of_pos_left _ (by omega)
  obtain ⟨g54, g55, g56, g57, g58, g59, g60, -⟩ := hG.2.2.1 t ht
  have e1 : my_1 (T t) = nI (sm_a (T t)) := by simp [my_1, hk]
  have e2 : my_2 (T t) = nI (sm_b (T t)) := by simp [my_2, hk]
  have e3 : my_3 (T t) = nI (sm_o (T t)) := by simp [my_3, hk]
  have alt := p.1.2.1
  have blt := p.2.1.2.1
  have hin : vp_in (nI t) 120 := vp_in_nI (by omega) (by omega)
  have w8 := (w t ht).2.1
  have szb := sm_sizes w hT (sm_b (T t)) (by omega) (by omega) p.2.1.2.2
  have szt := sm_sizes w hT t ht hc (by rw [hk]; rfl)
  have zst := szt.2.1 (by omega)
  have own : sm_own (T t) (sm_zs T tr (sm_a (T t))) (sm_p2 (T t).2.2.2.1 (sm_zs T tr)) = if sm_o (T t) = 0 then sm_zs T tr (sm_a (T t)) * sm_zs T tr (sm_b (T t)) else if sm_o (T t) = 1 then sm_zs T tr (sm_a (T t)) * max 1 (sm_zs T tr (sm_b (T t))) else sm_zs T tr (sm_a (T t)) := by rw [p.2.1.1]; simp [sm_own, hk, sm_p2]
  have bpos := sm_zc_pos (tr := tr) w (show sm_b (T t) < N by omega)
  have zst' : sm_zs T tr t ≤ sm_zs T tr (sm_a (T t)) * sm_zc T tr (sm_b (T t)) := by
    rw [zst, own]
    split
    · exact Nat.mul_le_mul_left _ szb.1
    · split
      · exact Nat.mul_le_mul_left _ (by omega)
      · exact Nat.le_mul_of_pos_right _ bpos
  have exp : (sm_zs T tr (sm_a (T t)) + 1) * sm_zc T tr (sm_b (T t)) = sm_zs T tr (sm_a (T t)) * sm_zc T tr (sm_b (T t)) + sm_zc T tr (sm_b (T t)) := Nat.succ_mul _ _
  refine fX8_applied_e ?_
  rw [nI_clamp (show t < 2 ^ 31 by omega), g57, e1]
  refine ⟨hin, my_bag_at w hT ht ih hpre p.1.2.1 p.1.2.2 (by omega) (my_or1 p.2.2.2.2.2) my_fr_refl hS (Nat.le_refl _) (by omega) (by omega) fun M1 A f1 s1 prA hA rl zl wl => ⟨hin, ?_⟩⟩
  have mwa := ((my_G_fr hG f1).2.2.1 (sm_a (T t)) (by omega)).2.2.1
  have mwb := ((my_G_fr hG f1).2.2.1 (sm_b (T t)) (by omega)).2.2.1
  rw [f1.1 657 (by omega) (by omega) (by omega), f1.1 658 (by omega) (by omega) (by omega), g57, e1, g58, e2, nI_clamp (show sm_a (T t) < 2 ^ 31 by omega), nI_clamp (show sm_b (T t) < 2 ^ 31 by omega), mwa, mwb, hS.1, s1.1]
  have ew : sm_w (T t) = if sm_o (T t) < 2 then sm_w (T (sm_a (T t))) + sm_w (T (sm_b (T t))) else sm_w (T (sm_a (T t))) := p.2.2.2.2.1
  have prS : (sm_apply (sm_o (T t)) (sm_w (T (sm_b (T t)))) A fun r => (sm_S T tb (sm_b (T t)) (sm_enter r e)).2).Perm (sm_S T tb t e).2 := by
    rw [sm_S_eq w ht, sm_body16 hk]
    exact sm_apply_perm _ _ prA fun _ _ => List.Perm.refl _
  have lS := prS.length_eq
  have lS2 := szt.2.2 e
  have cw : sm_w (T t) * (sm_apply (sm_o (T t)) (sm_w (T (sm_b (T t)))) A fun r => (sm_S T tb (sm_b (T t)) (sm_enter r e)).2).length ≤ 8 * (sm_apply (sm_o (T t)) (sm_w (T (sm_b (T t)))) A fun r => (sm_S T tb (sm_b (T t)) (sm_enter r e)).2).length := Nat.mul_le_mul_right _ w8
  refine ⟨vp_in_nI (by omega) (by omega), hin, vp_in_nI (by omega) (by omega), ?_⟩
  refine my_appl_54 (T := T) (dp := dp) (g := fun r => (sm_S T tb (sm_b (T t)) (sm_enter r e)).2) (wt := sm_w (T t)) (by omega) (by omega) ⟨by omega, p.2.2.1, ew, g56, by rw [g58, e2], by rw [g59, e3], by omega, by omega, by omega⟩ (fun M2 r p' q1 K' f2 s2 b1 b2 hr hm hp hK' => ?_) (fun M' O f' s' hO hA' => hK M' O f' s' (hO.trans prS) hA') A.length 0 M1 [] (by omega) f1 (by rw [List.take_zero]; unfold sm_apply; split <;> simp) s1 hA my_A_nil
  refine ((ih _ blt (by omega)).2.2 p.2.1.2.2) d z L _ (sm_enter r e) _ (dp + 1) K' (by omega) (my_in_pre hpre f2 s2 (by omega) hr (hA.1 r hm) hp blt p.2.2.2.1 p.2.2.2.2.2 (by omega)) fun M3 B f3 s3 hB hBA => hK' M3 B f3 s3 hB hBA ?_
  have := szb.2.2 (sm_enter r e)
  rw [hB.length_eq]; omega
end MY
