/-! CONTRACTS of ApplyFree$Reckoner: run -/
/-- the stack s, its top first -/
def rk_S (M : wd_M) (s : List Int32) : Prop := sl_at (M 630) 0 s.reverse
theorem rk_S_push {M : wd_M} {s : List Int32} {v : Int32} (h : rk_S M s) : rk_S (am_up2 M 630 s.length v) (v :: s) := by
  unfold rk_S
  rw [List.reverse_cons, sl_app, sl_one, ak_up_own]
  refine ⟨sl_upd h (by rw [List.length_reverse]; omega), ?_⟩
  rw [List.length_reverse, Nat.zero_add, pk_us]
theorem rk_S_top {M : wd_M} {s : List Int32} {v : Int32} (h : rk_S M (v :: s)) : M 630 s.length = v ∧ rk_S M s := by
  unfold rk_S at h
  rw [List.reverse_cons, sl_app, sl_one, List.length_reverse, Nat.zero_add] at h
  exact ⟨h.2, h.1⟩
theorem rk_S_set {M : wd_M} {s : List Int32} {v w : Int32} (h : rk_S M (v :: s)) : rk_S (am_up2 M 630 s.length w) (w :: s) := rk_S_push (rk_S_top h).2
section RK
variable {d : Nat} {z : wd_Z} {L : wd_L} {K : Int32 → wd_Z → wd_M → wd_L → Prop} {fr size x5 : Nat}
abbrev rk_at (d : Nat) (z : wd_Z) (L : wd_L) (K : Int32 → wd_Z → wd_M → wd_L → Prop) (fr size x5 : Nat) (M : wd_M) (s : List Int32) (i : Nat) : Prop := wRun (d + 1, 0, 0) mX6_run 6 [some (.ref 629), some (.ref 22), some (.int (nI fr)), some (.int (nI size)), some (.ref 638), some (.int (nI x5)), some (.int (nI s.length)), some (.int (nI (fr + i))), none, none, none, none, none] [] z M L (wQi K)
abbrev rk_a2 (d : Nat) (z : wd_Z) (L : wd_L) (K : Int32 → wd_Z → wd_M → wd_L → Prop) (fr size x5 : Nat) (M : wd_M) (s : List Int32) (i : Nat) : Prop := wRun (d + 1, 0, 0) mX6_run 361 [some (.ref 629), some (.ref 22), some (.int (nI fr)), some (.int (nI size)), some (.ref 638), some (.int (nI x5)), some (.int (nI s.length)), some (.int (nI (fr + i))), none, none, none, none, none] [] z M L (wQi K)
theorem rk_next {M : wd_M} {s : List Int32} {i : Nat} (h : rk_at d z L K fr size x5 M s (i + 1)) : rk_a2 d z L K fr size x5 M s i := by
  refine fX6_run_361 ?_
  rw [nI_1]
  exact h
/-- an operation without a number behind it -/
theorem rk_step1 {M : wd_M} {s s1 : List Int32} {i : Nat} {op : Int32} (hd : 2 ≤ d) (h : rk_one op s s1) (hS : rk_S M s) (hs : s.length ≤ 256) (hop : M 22 (fr + i) = op) (hi : i < size) (hf : fr + size ≤ 524288)
    (hc : ∀ M1, rk_S M1 s1 → (∀ c, c ≠ 630 → M1 c = M c) → rk_at d z L K fr size x5 M1 s1 (i + 1)) : rk_at d z L K fr size x5 M s i := by
  have g22 : ix_ar 22 524288 := Or.inr (Or.inl ⟨rfl, rfl⟩)
  refine fX6_run_6 ⟨fun q => absurd q (by rw [nI_add]; exact nI_ge (by omega) (by omega)), fun _ => ix_gI g22 ?_⟩
  rw [nI_clamp (by omega), hop]
  refine ⟨ix_gL g22 (by omega), ?_⟩
  have omg : ∀ {a b : Int} {P : Prop}, a ≠ b → a = b → P := fun h e => absurd e h
  rcases h with ⟨rfl, x, t, rfl, rfl⟩ | ⟨rfl, x, t, rfl, rfl⟩ | ⟨k, rfl, hk, a, b, t, rfl, rfl⟩
  · have hl : (x :: t).length = t.length + 1 := rfl
    rw [hl] at hs
    have e1 : nI (x :: t).length - 1 = nI t.length := by rw [hl]; exact nI_pred _
    obtain ⟨t1, t2⟩ := rk_S_top hS
    have fin : ∀ v w : Int32, (if v = 0 then (0 : Int32) else 1) = w → sm_isno x = w → wRun (d + 1, 0, 0) mX6_run 225 [some (.ref 629), some (.ref 22), some (.int (nI fr)), some (.int (nI size)), some (.ref 638), some (.int (nI x5)), some (.int (nI (x :: t).length)), some (.int (nI (fr + i))), none, none, none, none, none] [.int v, .int (nI t.length), .ref 630] z M L (wQi K) := fun v w e1 e2 => by
      refine fX6_run_225 (rk_asT ?_)
      rw [nI_clamp (by omega), e1, ← e2]
      exact ⟨vp_in_nI (by omega) (by omega), rk_next (s := sm_isno x :: t) (hc _ (rk_S_set hS) fun c h => ak_up_cell h)⟩
    have e4 : (4 : Int32).toInt = 4 := by decide
    rw [e4, e1, nI_clamp (n := t.length) (by omega), t1]
    refine ⟨fun q => by omega, omg (by decide), omg (by decide), omg (by decide), omg (by decide), fun _ => ⟨vp_in_nI (by omega) (by omega), fun q => fin 1 1 (by decide) (if_pos q), fun q => fin 0 0 (by decide) (if_neg q)⟩, omg (by decide), omg (by decide), omg (by decide), omg (by decide), omg (by decide), omg (by decide), trivial⟩
  · have hl : (x :: t).length = t.length + 1 := rfl
    rw [hl] at hs
    have e1 : nI (x :: t).length - 1 = nI t.length := by rw [hl]; exact nI_pred _
    obtain ⟨t1, t2⟩ := rk_S_top hS
    have fin : ∀ v : Int32, sm_not x = v → wRun (d + 1, 0, 0) mX6_run 270 [some (.ref 629), some (.ref 22), some (.int (nI fr)), some (.int (nI size)), some (.ref 638), some (.int (nI x5)), some (.int (nI (x :: t).length)), some (.int (nI (fr + i))), none, none, none, none, none] [.int v, .int (nI t.length), .ref 630] z M L (wQi K) := fun v e2 => by
      refine fX6_run_270 ?_
      rw [nI_clamp (by omega), ← e2]
      exact ⟨vp_in_nI (by omega) (by omega), rk_next (s := sm_not x :: t) (hc _ (rk_S_set hS) fun c h => ak_up_cell h)⟩
    have e4 : (10 : Int32).toInt = 10 := by decide
    rw [e4, e1, nI_clamp (n := t.length) (by omega), t1]
    refine ⟨fun q => by omega, omg (by decide), omg (by decide), omg (by decide), omg (by decide), omg (by decide), omg (by decide), omg (by decide), omg (by decide), omg (by decide), omg (by decide), fun _ => ⟨vp_in_nI (by omega) (by omega), fun q => fin _ (if_pos q), fun q => ⟨vp_in_nI (by omega) (by omega), fin _ (if_neg q)⟩⟩, trivial⟩
  · have hl : (b :: a :: t).length = t.length + 2 := rfl
    rw [hl] at hs
    obtain ⟨t1, t2⟩ := rk_S_top hS
    obtain ⟨t3, t4⟩ := rk_S_top t2
    have l1 : (a :: t).length = t.length + 1 := rfl
    rw [l1] at t1
    have e1 : nI (b :: a :: t).length + (-1) = nI (t.length + 1) := by rw [hl]; exact pk_m1 _
    have e2 : nI (b :: a :: t).length + (-1) - 1 = nI t.length := by rw [e1]; exact nI_pred _
    have fin : wRun (d + 1, 0, 0) mX6_run 360 [some (.ref 629), some (.ref 22), some (.int (nI fr)), some (.int (nI size)), some (.ref 638), some (.int (nI x5)), some (.int (nI (t.length + 1))), some (.int (nI (fr + i))), none, none, none, none, none] [.int (rk_2 k a b), .int (nI t.length), .ref 630] z M L (wQi K) := by
      refine fX6_run_360 ?_
      rw [nI_clamp (by omega)]
      exact ⟨vp_in_nI (by omega) (by omega), rk_next (s := rk_2 k a b :: t) (hc _ (rk_S_set t2) fun c h => ak_up_cell h)⟩
    have c274 : wRun (d + 1, 0, 0) mX6_run 274 [some (.ref 629), some (.ref 22), some (.int (nI fr)), some (.int (nI size)), some (.ref 638), some (.int (nI x5)), some (.int (nI (b :: a :: t).length)), some (.int (nI (fr + i))), some (.int (nI k)), none, none, none, none] [] z M L (wQi K) := by
      refine fX6_run_274 ?_
      rw [e2, e1, nI_clamp (by omega), nI_clamp (by omega), t1, t3, ak_n16, ak_n8, ak_n5, nI_ltI (by omega) (by omega), nI_ltI (by omega) (by omega)]
      refine ⟨vp_in_nI (by omega) (by omega), vp_in_nI (by omega) (by omega), fun q => ⟨fun q2 => ?_, fun q2 => ?_⟩, fun q => ?_⟩
      · rw [pk_sub (by omega)]
        refine rk_reckon (by omega) ?_
        have : rk_2 k a b = sm_reckon (k - 5) a b := by unfold rk_2; rw [if_neg (by omega), if_neg (by omega)]
        rw [← this]; exact fin
      · rw [pk_sub (by omega)]
        refine rk_logic (by omega) ?_
        have : rk_2 k a b = sm_logic (k - 8) a b := by unfold rk_2; rw [if_neg (by omega), if_pos (by omega)]
        rw [← this]; exact fin
      · rw [pk_sub (by omega)]
        refine rk_testC hd (by omega) ?_
        have : rk_2 k a b = rk_test (k - 16) a b := by unfold rk_2; rw [if_pos (by omega)]
        rw [← this]; exact fin
    rw [nI_toInt (show k < 2 ^ 31 by omega)]
    refine ⟨fun _ => c274, fun q => by omega, fun q => by omega, fun q => by omega, fun q => by omega, fun q => by omega, fun _ => c274, fun _ => c274, fun _ => c274, fun _ => c274, fun _ => c274, fun q => by omega, trivial⟩
/-- an operation with a number behind it -/
theorem rk_step2 {M : wd_M} {s : List Int32} {i : Nat} {op v w : Int32} {r : ay_Row} (hr : sl_at (M 638) x5 r) (hx : x5 + r.length ≤ 600000) (hS : rk_S M s) (hs : s.length < 256) (hop : M 22 (fr + i) = op) (hv : M 22 (fr + i + 1) = v) (hi : i + 1 < size) (hf : fr + size ≤ 524288)
    (hw : (op = 0 ∧ w = v) ∨ (∃ c, v = nI c ∧ c < r.length ∧ op = 1 ∧ w = r.getD c 0) ∨ (∃ c, v = nI c ∧ c + 1 < r.length ∧ op = 2 ∧ w = rk_dec 1 r c) ∨ (∃ c, v = nI c ∧ c + 1 < r.length ∧ op = 3 ∧ w = rk_dec 0 r c))
    (hc : ∀ M1, rk_S M1 (w :: s) → (∀ c, c ≠ 630 → M1 c = M c) → rk_at d z L K fr size x5 M1 (w :: s) (i + 2)) : rk_at d z L K fr size x5 M s i := by
  have g22 : ix_ar 22 524288 := Or.inr (Or.inl ⟨rfl, rfl⟩)
  have g638 : ix_ar 638 600000 := Or.inl ⟨rfl, rfl⟩
  have hlw : (w :: s).length = s.length + 1 := rfl
  have fin : ∀ u : Int32, u = w → rk_a2 d z L K fr size x5 (am_up2 M 630 s.length u) (w :: s) (i + 1) := fun u e => rk_next (s := w :: s) (hc _ (by rw [e]; exact rk_S_push hS) fun c h => ak_up_cell h)
  have omg : ∀ {a b : Int} {P : Prop}, a ≠ b → a = b → P := fun h e => absurd e h
  have e1 : nI (fr + i) + 1 = nI (fr + i + 1) := nI_1 _
  refine fX6_run_6 ⟨fun q => absurd q (by rw [nI_add]; exact nI_ge (by omega) (by omega)), fun _ => ix_gI g22 ?_⟩
  rw [e1, nI_clamp (show fr + i < 2 ^ 31 by omega), nI_clamp (show fr + i + 1 < 2 ^ 31 by omega), hop, hv]
  refine ⟨ix_gL g22 (by omega), ?_⟩
  rcases hw with ⟨rfl, e⟩ | ⟨c, rfl, hc1, rfl, e⟩ | ⟨c, rfl, hc1, rfl, e⟩ | ⟨c, rfl, hc1, rfl, e⟩
  · have e0 : (0 : Int32).toInt = 0 := by decide
    rw [e0, nI_clamp (show s.length < 2 ^ 31 by omega), nI_1]
    refine ⟨fun q => by omega, fun _ => ix_gI g22 ⟨ix_gL g22 (by omega), vp_in_nI hs (by omega), fin _ e.symm⟩, omg (by decide), omg (by decide), omg (by decide), omg (by decide), omg (by decide), omg (by decide), omg (by decide), omg (by decide), omg (by decide), omg (by decide), trivial⟩
  · have e0 : (1 : Int32).toInt = 1 := by decide
    rw [e0, nI_clamp (show s.length < 2 ^ 31 by omega), nI_add, nI_clamp (show x5 + c < 2 ^ 31 by omega), sl_getD hr hc1]
    refine ⟨fun q => by omega, omg (by decide), fun _ => ix_gI g22 ⟨ix_gL g22 (by omega), ix_gI g638 ⟨ix_gL g638 (by omega), vp_in_nI hs (by omega), ?_⟩⟩, omg (by decide), omg (by decide), omg (by decide), omg (by decide), omg (by decide), omg (by decide), omg (by decide), omg (by decide), omg (by decide), trivial⟩
    rw [nI_1]; exact fin _ e.symm
  · have c149 : wRun (d + 1, 0, 0) mX6_run 149 [some (.ref 629), some (.ref 22), some (.int (nI fr)), some (.int (nI size)), some (.ref 638), some (.int (nI x5)), some (.int (nI s.length)), some (.int (nI (fr + i + 1))), none, some (.int (nI (x5 + c))), none, none, none] [.int 1] z M L (wQi K) := by
      refine fX6_run_149 (ix_gI g638 ?_)
      have c194 : ∀ u : Int32, u = w → wRun (d + 1, 0, 0) mX6_run 194 [some (.ref 629), some (.ref 22), some (.int (nI fr)), some (.int (nI size)), some (.ref 638), some (.int (nI x5)), some (.int (nI s.length + 1)), some (.int (nI (fr + i + 1))), none, none, none, none, none] [.int u, .int (nI s.length), .ref 630] z M L (wQi K) := fun u eu => by
        refine fX6_run_194 ?_
        rw [nI_clamp (by omega), nI_1]
        exact ⟨vp_in_nI hs (by omega), fin u eu⟩
      rw [nI_1 (x5 + c), nI_clamp (show x5 + c < 2 ^ 31 by omega), nI_clamp (show x5 + c + 1 < 2 ^ 31 by omega), sl_getD hr (show c < r.length by omega), show x5 + c + 1 = x5 + (c + 1) from rfl, sl_getD hr hc1]
      unfold rk_dec at e
      refine ⟨ix_gL g638 (by omega), fun q => c194 _ (by rw [e, if_pos q]), fun q => ix_gI g638 ⟨ix_gL g638 (by omega), fun q2 => c194 _ (by rw [e, if_neg q, if_pos q2]), fun q2 => c194 _ (by rw [e, if_neg q, if_neg q2])⟩⟩
    have c126 : wRun (d + 1, 0, 0) mX6_run 126 [some (.ref 629), some (.ref 22), some (.int (nI fr)), some (.int (nI size)), some (.ref 638), some (.int (nI x5)), some (.int (nI s.length)), some (.int (nI (fr + i))), some (.int 2), none, none, none, none] [] z M L (wQi K) := by
      refine fX6_run_126 (ix_gI g22 ?_)
      rw [e1, nI_clamp (show fr + i + 1 < 2 ^ 31 by omega), hv, nI_add]
      exact ⟨ix_gL g22 (by omega), fun _ => c149, fun q => absurd rfl q⟩
    have e0 : (2 : Int32).toInt = 2 := by decide
    rw [e0]
    exact ⟨fun q => by omega, omg (by decide), omg (by decide), fun _ => c126, omg (by decide), omg (by decide), omg (by decide), omg (by decide), omg (by decide), omg (by decide), omg (by decide), omg (by decide), trivial⟩
  · have c149 : wRun (d + 1, 0, 0) mX6_run 149 [some (.ref 629), some (.ref 22), some (.int (nI fr)), some (.int (nI size)), some (.ref 638), some (.int (nI x5)), some (.int (nI s.length)), some (.int (nI (fr + i + 1))), none, some (.int (nI (x5 + c))), none, none, none] [.int 0] z M L (wQi K) := by
      refine fX6_run_149 (ix_gI g638 ?_)
      have c194 : ∀ u : Int32, u = w → wRun (d + 1, 0, 0) mX6_run 194 [some (.ref 629), some (.ref 22), some (.int (nI fr)), some (.int (nI size)), some (.ref 638), some (.int (nI x5)), some (.int (nI s.length + 1)), some (.int (nI (fr + i + 1))), none, none, none, none, none] [.int u, .int (nI s.length), .ref 630] z M L (wQi K) := fun u eu => by
        refine fX6_run_194 ?_
        rw [nI_clamp (by omega), nI_1]
        exact ⟨vp_in_nI hs (by omega), fin u eu⟩
      rw [nI_1 (x5 + c), nI_clamp (show x5 + c < 2 ^ 31 by omega), nI_clamp (show x5 + c + 1 < 2 ^ 31 by omega), sl_getD hr (show c < r.length by omega), show x5 + c + 1 = x5 + (c + 1) from rfl, sl_getD hr hc1]
      unfold rk_dec at e
      refine ⟨ix_gL g638 (by omega), fun q => c194 _ (by rw [e, if_pos q]), fun q => ix_gI g638 ⟨ix_gL g638 (by omega), fun q2 => c194 _ (by rw [e, if_neg q, if_pos q2]), fun q2 => c194 _ (by rw [e, if_neg q, if_neg q2])⟩⟩
    have c126 : wRun (d + 1, 0, 0) mX6_run 126 [some (.ref 629), some (.ref 22), some (.int (nI fr)), some (.int (nI size)), some (.ref 638), some (.int (nI x5)), some (.int (nI s.length)), some (.int (nI (fr + i))), some (.int 3), none, none, none, none] [] z M L (wQi K) := by
      refine fX6_run_126 (ix_gI g22 ?_)
      rw [e1, nI_clamp (show fr + i + 1 < 2 ^ 31 by omega), hv, nI_add]
      exact ⟨ix_gL g22 (by omega), fun q => absurd q (by decide), fun _ => c149⟩
    have e0 : (3 : Int32).toInt = 3 := by decide
    rw [e0]
    exact ⟨fun q => by omega, omg (by decide), omg (by decide), omg (by decide), fun _ => c126, omg (by decide), omg (by decide), omg (by decide), omg (by decide), omg (by decide), omg (by decide), omg (by decide), trivial⟩
theorem rk_loop {M0 : wd_M} {r : ay_Row} {v : Int32} (hd : 2 ≤ d) (hx : x5 + r.length ≤ 600000) (hf : fr + size ≤ 524288) (hK : ∀ M', (∀ c, c ≠ 630 → M' c = M0 c) → K v z M' L) : ∀ (n : Nat) (q s : List Int32) (i : Nat) (M : wd_M), q.length ≤ n → i + q.length = size → sl_at (M 22) (fr + i) q → sl_at (M 638) x5 r → rk_S M s → s.length ≤ 256 → (∀ c, c ≠ 630 → M c = M0 c) → rk_go r q s [v] → rk_at d z L K fr size x5 M s i
  | _, [], s, i, M, _, hi, _, _, hS, _, hM, h => by
    unfold rk_go at h
    have hi : i + 0 = size := hi
    have ei : i = size := by omega
    subst ei
    refine fX6_run_6 ⟨fun _ => ⟨vp_in_nI (n := 0) (by omega) (by omega), ?_⟩, fun q => absurd (by rw [nI_add]; exact nI_le (Nat.le_refl _) (by omega)) q⟩
    rw [← h] at hS
    have this : M 630 0 = v := (rk_S_top hS).1
    rw [show (0 : Int32).toNatClampNeg = 0 from rfl, this]
    exact wQi_i (hK M hM)
  | _, [op], s, i, M, _, hi, hq, hr, hS, hs, hM, h => by
    unfold rk_go at h
    have hi : i + 1 = size := hi
    have h1 := rk_one_len h
    refine rk_step1 hd h hS hs (sl_one.mp hq) (by omega) hf fun M1 S1 F1 => ?_
    refine rk_loop hd hx hf hK 0 [] [v] (i + 1) M1 (Nat.le_refl _) hi sl_nil (by rw [F1 638 (by omega)]; exact hr) S1 (by show 1 ≤ 256; omega) (fun c hc => (F1 c hc).trans (hM c hc)) (by unfold rk_go; rfl)
  | 0, op :: u :: p, _, _, _, hn, _, _, _, _, _, _, _ => by simp at hn
  | n + 1, op :: u :: p, s, i, M, hn, hi, hq, hr, hS, hs, hM, h => by
    simp only [List.length_cons] at hn hi
    unfold rk_go at h
    obtain ⟨q1, q2⟩ := sl_cons.mp hq
    obtain ⟨q3, q4⟩ := sl_cons.mp q2
    have two : ∀ w : Int32, s.length < 256 → ((op = 0 ∧ w = u) ∨ (∃ c, u = nI c ∧ c < r.length ∧ op = 1 ∧ w = r.getD c 0) ∨ (∃ c, u = nI c ∧ c + 1 < r.length ∧ op = 2 ∧ w = rk_dec 1 r c) ∨ (∃ c, u = nI c ∧ c + 1 < r.length ∧ op = 3 ∧ w = rk_dec 0 r c)) → rk_go r p (w :: s) [v] → rk_at d z L K fr size x5 M s i := fun w hl hw hg => by
      refine rk_step2 hr hx hS hl q1 q3 (by omega) hf hw fun M1 S1 F1 => ?_
      exact rk_loop hd hx hf hK n p (w :: s) (i + 2) M1 (by omega) (by omega) (by rw [F1 22 (by omega)]; exact q4) (by rw [F1 638 (by omega)]; exact hr) S1 (by show s.length + 1 ≤ 256; omega) (fun c hc => (F1 c hc).trans (hM c hc)) hg
    rcases h with ⟨hl, ⟨e, h⟩ | ⟨c, c1, c2, c3, h⟩ | ⟨c, c1, c2, c3, h⟩ | ⟨c, c1, c2, c3, h⟩⟩ | ⟨s1, h1, h⟩
    · exact two u hl (Or.inl ⟨e, rfl⟩) h
    · exact two _ hl (Or.inr (Or.inl ⟨c, c1, c2, c3, rfl⟩)) h
    · exact two _ hl (Or.inr (Or.inr (Or.inl ⟨c, c1, c2, c3, rfl⟩))) h
    · exact two _ hl (Or.inr (Or.inr (Or.inr ⟨c, c1, c2, c3, rfl⟩))) h
    · have l1 := rk_one_len h1
      refine rk_step1 hd h1 hS hs q1 (by omega) hf fun M1 S1 F1 => ?_
      exact rk_loop hd hx hf hK n (u :: p) s1 (i + 1) M1 (by rw [List.length_cons]; omega) (by rw [List.length_cons]; omega) (by rw [F1 22 (by omega)]; exact q2) (by rw [F1 638 (by omega)]; exact hr) S1 (by omega) (fun c hc => (F1 c hc).trans (hM c hc)) h
theorem rk_runC {M : wd_M} {r : ay_Row} {v : Int32} {p : List Int32} (hd : 3 ≤ d) (hp : sl_at (M 22) fr p) (hf : fr + p.length ≤ 524288) (hr : sl_at (M 638) x5 r) (hx : x5 + r.length ≤ 600000) (h : rk_go r p [] [v]) (hK : ∀ M', (∀ c, c ≠ 630 → M' c = M c) → K v z M' L) :
    wRunI (d, 0, 0) mX6_run [.ref 629, .ref 22, .int (nI fr), .int (nI p.length), .ref 638, .int (nI x5)] z M L K := by
  obtain ⟨d, rfl, hd'⟩ := ak_deep hd
  refine fX6_run_e ?_
  have := rk_loop (d := d) (z := z) (L := L) (K := K) (fr := fr) (size := p.length) (x5 := x5) hd' hx hf hK p.length p [] 0 M (Nat.le_refl _) (by omega) (by rw [Nat.add_zero]; exact hp) hr (by unfold rk_S; simpa using sl_nil) (by simp) (fun _ _ => rfl) h
  exact this
end RK
