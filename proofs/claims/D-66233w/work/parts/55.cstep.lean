/-! CONTRACTS of ApplyFree$Executor: step -/
/-- a step that can be done -/
def xe_ok (tc : Nat → Nat) (nt : Nat) (A : xe_A) (s : Nat) (st : cp_St) : Prop := match st with
  | (op, l, r, size, ls, k, v) => match op with
    | 0 => l = none ∧ r = none
    | 1 => l = none ∧ r = none ∧ ∃ t, t < nt ∧ k = nI t
    | 2 => ∃ a b, l = some a ∧ r = some b ∧ a < s ∧ b < s
    | 3 => ∃ a, l = some a ∧ r = none ∧ a < s ∧ size = ls.length ∧ ∀ x, x ∈ (A a).2 → ∃ u, rk_go x ls [] [u]
    | 4 => ∃ a, l = some a ∧ r = none ∧ a < s ∧ size = ls.length ∧ ∀ x, x ∈ (A a).2 → ∃ u, rk_go x ls [] [u]
    | 5 => ∃ a, l = some a ∧ r = none ∧ a < s ∧ size = ls.length ∧ ∀ c, c ∈ ls → ∃ j, c = nI j ∧ j < (A a).1
    | 6 => ∃ a b kk, l = some a ∧ r = some b ∧ a < s ∧ b < s ∧ size = ls.length ∧ ls.length ≤ 256 ∧ ls.length ≤ (A b).1 ∧ (∀ c, c ∈ ls → ∃ j, c = nI j ∧ j < (A a).1) ∧ k = nI kk ∧ kk ≤ 4
    | 7 => ∃ a b, l = some a ∧ r = some b ∧ a < s ∧ b < s ∧ (A a).1 = (A b).1
    | 8 => ∃ a b, l = some a ∧ r = some b ∧ a < s ∧ b < s ∧ (A a).1 = (A b).1 ∧ (A a).1 ≤ 256
    | 9 => ∃ a b, l = some a ∧ r = some b ∧ a < s ∧ b < s ∧ (A a).1 = (A b).1 ∧ (A a).1 ≤ 256
    | 10 => ∃ a, l = some a ∧ r = none ∧ a < s ∧ (A a).1 ≤ 256
    | 11 => ∃ a kk c, l = some a ∧ r = none ∧ a < s ∧ size = ls.length ∧ ls.length ≤ 256 ∧ (∀ c, c ∈ ls → ∃ j, c = nI j ∧ j < (A a).1) ∧ k = nI kk ∧ kk ≤ 4 ∧ v = nI c ∧ c < (A a).1
    | 12 => ∃ a m, l = some a ∧ r = none ∧ a < s ∧ size ≤ (A a).1 ∧ v = nI m ∧ m < 100000
    | _ => False
theorem tb_T_fr {z : wd_Z} {M M' : wd_M} {k c : Nat} {R : List ay_Row} (h : tb_T z M k c R) (e : ∀ c, 667 ≤ c → M' c = M c) : tb_T z M' k c R := by
  unfold tb_T at *
  rw [e (667 + 2 * k) (by omega), e (668 + 2 * k) (by omega)]; exact h
section XE
variable {d : Nat} {z : wd_Z} {L : wd_L}
theorem xe_O_0 {M : wd_M} {s q w : Nat} (h5 : M 628 5 = nI q) (h0 : M 640 s = nI 0) : xe_O M (am_up2 M 641 s (nI w)) s q w [] 0 :=
  ⟨⟨fun c hc => ak_up_cell (by omega), fun i _ => by rw [ak_up_cell (by omega)], ak_up_cell (by omega), fun t _ => by rw [ak_up_cell (by omega)], fun t ht => ak_up_ne ht, ak_up_cell (by omega), ak_up_cell (by omega), ak_up_cell (by omega), fun i _ => by rw [ak_up_cell (by omega)]⟩, by rw [ak_up_cell (by omega)]; exact h5, by rw [ak_up_cell (by omega)]; exact h0, ak_up_same, sl_nil⟩
def xe_zz (z z' : wd_Z) : Prop := z' = z ∨ z' = ix_z z 22 ∨ z' = ix_z z 644
theorem xe_step {M : wd_M} {A : xe_A} {tc : Nat → Nat} {tb : Nat → List ay_Row} {nt s q u : Nat} {st : cp_St} {K : wd_Z → wd_M → wd_L → Prop} (hd : 8 ≤ d) (hs : s < 32768) (hst : rx_st M u s st) (hu : u ≤ 524288) (hok : xe_ok tc nt A s st) (htb : ∀ t, t < nt → tb_T z M t (tc t) (tb t) ∧ tc t ≤ 4 ∧ t < 6) (hall : xe_all M)
    (hblk : ∀ a, st.2.1 = some a ∨ st.2.2.1 = some a → ∃ p, xe_B M a p (A a).1 (A a).2 ∧ p + xe_1 A a ≤ q) (hbnd : ∀ a, st.2.1 = some a ∨ st.2.2.1 = some a → (A a).2.length ≤ 8192 ∧ (A a).1 < 100000) (h5 : M 628 5 = nI q) (hq : q ≤ 600000) (h0 : M 640 s = nI 0)
    (hr : q + (ex_step tc tb A st).2.flatten.length ≤ 600000)
    (hK : ∀ z' M', xe_zz z z' → xe_O M M' s q (ex_step tc tb A st).1 (ex_step tc tb A st).2.flatten (ex_step tc tb A st).2.length → K z' M' L) : wRunV (d, 0, 0) mX5_step [.ref 628, .int (nI s)] z M L K := by
  obtain ⟨op, l, r, size, ls, k, v⟩ := st
  obtain ⟨m15, m16, m17, m19, m20, m21, fr, m18, hfr, hsl⟩ := hst
  dsimp only at m15 m16 m17 m19 m20 m21 m18 hfr hsl hblk hbnd
  obtain ⟨d, rfl, hd'⟩ := ak_deep hd
  have hin : vp_in (nI s) 32768 := vp_in_nI hs (by omega)
  have hop : op ≤ 12 := by
    refine Nat.not_lt.mp fun h => ?_
    obtain ⟨j, hj⟩ : ∃ j, op = j + 13 := ⟨op - 13, by omega⟩
    subst hj
    exact hok
  -- the switch
  have sw : ∀ w : Nat, (∀ a, l = some a → (A a).1 = w) → (∀ {M1 : wd_M}, M1 = am_up2 M 641 s (nI w) → wRun (d + 1, 0, 0) mX5_step 39 [some (.ref 628), some (.int (nI s)), some (.int (ak_o l)), some (.int (ak_o r))] [.int (nI w), .int (nI s), .ref 641] z M L (wQv K)) → (∀ a, l = none → w = 0) → wRunV (d + 1, 0, 0) mX5_step [.ref 628, .int (nI s)] z M L K := fun w h1 h2 h3 => by
    refine fX5_step_e ?_
    rw [nI_clamp (show s < 2 ^ 31 by omega), m16, m17]
    refine ⟨hin, hin, ?_⟩
    cases el : l with
    | none =>
      rw [el] at h2
      have := h3 0 el
      subst this
      exact ⟨fun e => absurd e (by decide), fun _ => h2 rfl⟩
    | some a =>
      obtain ⟨p, hB, -⟩ := hblk a (Or.inl el)
      have hal := hB.1
      have ew : M 641 a = nI w := by rw [hB.2.2.2.1, h1 a el]
      rw [el] at h2
      show (0 ≤ nI a → _) ∧ (¬ 0 ≤ nI a → _)
      refine ⟨fun _ => ⟨vp_in_nI hal (by omega), ?_⟩, fun e => absurd (nI_pos' (by omega)) e⟩
      have e1 : (ak_o (some a)).toNatClampNeg = a := nI_clamp (by omega)
      rw [e1, ew]
      exact h2 rfl
  have blk : ∀ {a : Nat}, l = some a ∨ r = some a → ∃ p, xe_B M a p (A a).1 (A a).2 ∧ p + (A a).2.length * (A a).1 ≤ q := fun h => hblk _ h
  have fin : ∀ {z' : wd_Z} {M' : wd_M} {out : List Int32} {n w : Nat}, xe_zz z z' → xe_O M M' s q w out n → (ex_step tc tb A (op, l, r, size, ls, k, v)).1 = w → (ex_step tc tb A (op, l, r, size, ls, k, v)).2.flatten = out → (ex_step tc tb A (op, l, r, size, ls, k, v)).2.length = n → wRun (d + 1, 0, 0) mX5_step 240 [none, none, none, none] [] z' M' L (wQv K) := fun {z' M' out n w} g1 g2 g3 g4 g5 => fX5_step_240 (wQv_i (hK _ M' g1 (by rw [g3, g4, g5]; exact g2)))
  have zz0 : xe_zz z z := Or.inl rfl
  have zz1 : xe_zz z (ix_z z 22) := Or.inr (Or.inl rfl)
  have zz2 : xe_zz z (ix_z z 644) := Or.inr (Or.inr rfl)
  have hpr : size = ls.length → xe_pr M s fr ls := fun e => ⟨m18, by rw [m19, e], hsl, by omega⟩
  have go39 : ∀ {w : Nat}, (∀ M1 : wd_M, M1 = am_up2 M 641 s (nI w) → xe_O M M1 s q w [] 0 → 
      (((nI op).toInt < 0 ∨ 11 < (nI op).toInt) → wRunV (d, 0, 0) mX5_top [.ref 628, .int (nI s), .int (ak_o l)] z M1 L (fun z1 M1 L1 => wRun (d + 1, 0, 0) mX5_step 240 [none, none, none, none] [] z1 M1 L1 (wQv K))) ∧
      ((nI op).toInt = 0 → (vp_in (nI s) 32768 ∧ wRun (d + 1, 0, 0) mX5_step 240 [none, none, none, none] [] z (am_up2 M1 640 s 1) L (wQv K))) ∧
      ((nI op).toInt = 1 → (vp_in (nI s) 32768 ∧ (vp_in (M1 20 s) 6 ∧ am_bR (wd_R z 2 (M1 20 s).toNatClampNeg) (fun b => wRunV (d, 0, 0) mX5_lay [.ref 628, .int (nI s), .ref b] z M1 L (fun z1 M1 L1 => wRun (d + 1, 0, 0) mX5_step 240 [none, none, none, none] [] z1 M1 L1 (wQv K)))))) ∧
      ((nI op).toInt = 2 → wRunV (d, 0, 0) mX5_cross [.ref 628, .int (nI s), .int (ak_o l), .int (ak_o r)] z M1 L (fun z1 M1 L1 => wRun (d + 1, 0, 0) mX5_step 240 [none, none, none, none] [] z1 M1 L1 (wQv K))) ∧
      ((nI op).toInt = 3 → wRunV (d, 0, 0) mX5_select [.ref 628, .int (nI s), .int (ak_o l)] z M1 L (fun z1 M1 L1 => wRun (d + 1, 0, 0) mX5_step 240 [none, none, none, none] [] z1 M1 L1 (wQv K))) ∧
      ((nI op).toInt = 4 → wRunV (d, 0, 0) mX5_extend [.ref 628, .int (nI s), .int (ak_o l)] z M1 L (fun z1 M1 L1 => wRun (d + 1, 0, 0) mX5_step 240 [none, none, none, none] [] z1 M1 L1 (wQv K))) ∧
      ((nI op).toInt = 5 → wRunV (d, 0, 0) mX5_pick [.ref 628, .int (nI s), .int (ak_o l)] z M1 L (fun z1 M1 L1 => wRun (d + 1, 0, 0) mX5_step 240 [none, none, none, none] [] z1 M1 L1 (wQv K))) ∧
      ((nI op).toInt = 6 → wRunV (d, 0, 0) mX5_join [.ref 628, .int (nI s), .int (ak_o l), .int (ak_o r)] z M1 L (fun z1 M1 L1 => wRun (d + 1, 0, 0) mX5_step 240 [none, none, none, none] [] z1 M1 L1 (wQv K))) ∧
      ((nI op).toInt = 7 → wRunV (d, 0, 0) mX5_copyAll [.ref 628, .int (nI s), .int (ak_o l)] z M1 L (fun z1 M1 L1 => wRunV (d, 0, 0) mX5_copyAll [.ref 628, .int (nI s), .int (ak_o r)] z1 M1 L1 (fun z1 M1 L1 => wRun (d + 1, 0, 0) mX5_step 240 [none, none, none, none] [] z1 M1 L1 (wQv K)))) ∧
      ((nI op).toInt = 8 → wRun (d + 1, 0, 0) mX5_step 206 [some (.ref 628), some (.int (nI s)), some (.int (ak_o l)), some (.int (ak_o r))] [] z M1 L (wQv K)) ∧
      ((nI op).toInt = 9 → wRun (d + 1, 0, 0) mX5_step 206 [some (.ref 628), some (.int (nI s)), some (.int (ak_o l)), some (.int (ak_o r))] [] z M1 L (wQv K)) ∧
      ((nI op).toInt = 10 → wRunV (d, 0, 0) mX5_unique [.ref 628, .int (nI s), .int (ak_o l)] z M1 L (fun z1 M1 L1 => wRun (d + 1, 0, 0) mX5_step 240 [none, none, none, none] [] z1 M1 L1 (wQv K))) ∧
      ((nI op).toInt = 11 → wRunV (d, 0, 0) mX5_gather [.ref 628, .int (nI s), .int (ak_o l)] z M1 L (fun z1 M1 L1 => wRun (d + 1, 0, 0) mX5_step 240 [none, none, none, none] [] z1 M1 L1 (wQv K)))) →
      wRun (d + 1, 0, 0) mX5_step 39 [some (.ref 628), some (.int (nI s)), some (.int (ak_o l)), some (.int (ak_o r))] [.int (nI w), .int (nI s), .ref 641] z M L (wQv K) := fun {w} h => by
    obtain ⟨g0, g1, g2, g3, g4, g5, g6, g7, g8, g9, g10, g11, g12⟩ := h _ rfl (xe_O_0 h5 h0)
    refine fX5_step_39 ?_
    have e15 : am_up2 M 641 s (nI w) 15 s = nI op := by rw [ak_up_cell (by omega)]; exact m15
    rw [nI_clamp (show s < 2 ^ 31 by omega), e15]
    exact ⟨hin, hin, g0, g1, g2, g3, g4, g5, g6, g7, g8, g9, g10, g11, g12, trivial⟩
  have T : (nI op).toInt = (op : Int) := nI_toInt (by omega)
  have o13 : op = 0 ∨ op = 1 ∨ op = 2 ∨ op = 3 ∨ op = 4 ∨ op = 5 ∨ op = 6 ∨ op = 7 ∨ op = 8 ∨ op = 9 ∨ op = 10 ∨ op = 11 ∨ op = 12 := by omega
  rcases o13 with rfl | rfl | rfl | rfl | rfl | rfl | rfl | rfl | rfl | rfl | rfl | rfl | rfl
  · obtain ⟨rfl, rfl⟩ := hok
    refine sw 0 (fun a h => by cases h) (fun {M1} _ => go39 fun M1 eM O1 => ?_) (fun _ _ => rfl)
    rw [T]
    refine ⟨fun q => by omega, fun _ => ⟨hin, fin zz0 (xe_O_inc O1) rfl ?_ ?_⟩, fun q => by omega, fun q => by omega, fun q => by omega, fun q => by omega, fun q => by omega, fun q => by omega, fun q => by omega, fun q => by omega, fun q => by omega, fun q => by omega, fun q => by omega⟩
    · rfl
    · rfl
  · obtain ⟨rfl, rfl, t, ht, rfl⟩ := hok
    obtain ⟨hT, h4, h6⟩ := htb t ht
    refine sw 0 (fun a h => by cases h) (fun {M1} _ => go39 fun M1 eM O1 => ?_) (fun _ _ => rfl)
    rw [T]
    have e20 : M1 20 s = nI t := by rw [O1.1.1 20 (by omega)]; exact m20
    have ec : (nI t).toNatClampNeg = t := nI_clamp (by omega)
    rw [e20, ec]
    refine ⟨fun q => by omega, fun q => by omega, fun _ => ⟨hin, vp_in_nI h6 (by omega), am_bR_i (tb_ref hT.1) (xe_lay (by omega) hs O1 (tb_T_fr hT fun c hc => O1.1.1 c (by omega)) h4 ?_ fun M' O' => fin zz0 O' ?_ ?_ ?_)⟩, fun q => by omega, fun q => by omega, fun q => by omega, fun q => by omega, fun q => by omega, fun q => by omega, fun q => by omega, fun q => by omega, fun q => by omega, fun q => by omega⟩
    · have : (ex_step tc tb A (1, none, none, size, ls, nI t, v)).2 = tb (nI t).toNatClampNeg := rfl
      rw [this, ec] at hr; exact hr
    · show tc (nI t).toNatClampNeg = _; rw [ec]
    · show (tb (nI t).toNatClampNeg).flatten = _; rw [ec]
    · show (tb (nI t).toNatClampNeg).length = _; rw [ec]
  · obtain ⟨a, b, rfl, rfl, ha, hb⟩ := hok
    obtain ⟨p1, hB1, hp1⟩ := blk (Or.inl rfl)
    obtain ⟨p2, hB2, hp2⟩ := blk (Or.inr rfl)
    have n1 := hbnd a (Or.inl rfl)
    have n2 := hbnd b (Or.inr rfl)
    refine sw _ (fun x h => by cases h; rfl) (fun {M1} _ => go39 (w := (A a).1) fun M1 eM O1 => ?_) (fun _ h => by cases h)
    rw [T]
    refine ⟨fun q => by omega, fun q => by omega, fun q => by omega, fun _ => xe_cross (by omega) hs O1 hB1 hB2 (by omega) (by omega) hp1 hp2 hq (by omega) (by omega) hr fun M' O' => fin zz0 O' rfl rfl rfl, fun q => by omega, fun q => by omega, fun q => by omega, fun q => by omega, fun q => by omega, fun q => by omega, fun q => by omega, fun q => by omega, fun q => by omega⟩
  · obtain ⟨a, rfl, rfl, ha, hsz, hg⟩ := hok
    obtain ⟨p1, hB1, hp1⟩ := blk (Or.inl rfl)
    have n1 := hbnd a (Or.inl rfl)
    refine sw _ (fun x h => by cases h; rfl) (fun {M1} _ => go39 (w := (A a).1) fun M1 eM O1 => ?_) (fun _ h => by cases h)
    rw [T]
    refine ⟨fun q => by omega, fun q => by omega, fun q => by omega, fun q => by omega, fun _ => xe_select (by omega) hs O1 hB1 (by omega) hp1 hq (by omega) (by omega) (hpr hsz) hg hr fun M' O' => fin zz0 O' rfl rfl rfl, fun q => by omega, fun q => by omega, fun q => by omega, fun q => by omega, fun q => by omega, fun q => by omega, fun q => by omega, fun q => by omega⟩
  · obtain ⟨a, rfl, rfl, ha, hsz, hg⟩ := hok
    obtain ⟨p1, hB1, hp1⟩ := blk (Or.inl rfl)
    have n1 := hbnd a (Or.inl rfl)
    refine sw _ (fun x h => by cases h; rfl) (fun {M1} _ => go39 (w := (A a).1) fun M1 eM O1 => ?_) (fun _ h => by cases h)
    rw [T]
    refine ⟨fun q => by omega, fun q => by omega, fun q => by omega, fun q => by omega, fun q => by omega, fun _ => xe_extend (by omega) hs O1 hB1 (by omega) hp1 hq (by omega) (by omega) (hpr hsz) hg hr fun M' O' => fin zz0 O' rfl rfl rfl, fun q => by omega, fun q => by omega, fun q => by omega, fun q => by omega, fun q => by omega, fun q => by omega, fun q => by omega⟩
  · obtain ⟨a, rfl, rfl, ha, hsz, hg⟩ := hok
    obtain ⟨p1, hB1, hp1⟩ := blk (Or.inl rfl)
    have n1 := hbnd a (Or.inl rfl)
    refine sw _ (fun x h => by cases h; rfl) (fun {M1} _ => go39 (w := (A a).1) fun M1 eM O1 => ?_) (fun _ h => by cases h)
    rw [T]
    refine ⟨fun q => by omega, fun q => by omega, fun q => by omega, fun q => by omega, fun q => by omega, fun q => by omega, fun _ => xe_pick (by omega) hs O1 hB1 (by omega) hp1 hq (by omega) (hpr hsz) hg hr fun M' O' => fin zz0 O' hsz rfl rfl, fun q => by omega, fun q => by omega, fun q => by omega, fun q => by omega, fun q => by omega, fun q => by omega⟩
  · obtain ⟨a, b, kk, rfl, rfl, ha, hb, hsz, h256, hlw, hcol, rfl, hkk⟩ := hok
    obtain ⟨p1, hB1, hp1⟩ := blk (Or.inl rfl)
    obtain ⟨p2, hB2, hp2⟩ := blk (Or.inr rfl)
    have n1 := hbnd a (Or.inl rfl)
    have n2 := hbnd b (Or.inr rfl)
    have ec : (nI kk).toNatClampNeg = kk := nI_clamp (by omega)
    have ex : ex_step tc tb A (6, some a, some b, size, ls, nI kk, v) = ((A a).1 + ex_more kk (A b).1 ls.length, (A a).2.flatMap (ex_join1 kk ls v (A b).1 (A b).2)) := by
      show ((A a).1 + ex_more (nI kk).toNatClampNeg (A b).1 ls.length, (A a).2.flatMap (ex_join1 (nI kk).toNatClampNeg ls v (A b).1 (A b).2)) = _
      rw [ec]
    rw [ex] at hr
    refine sw _ (fun x h => by cases h; rfl) (fun {M1} _ => go39 (w := (A a).1) fun M1 eM O1 => ?_) (fun _ h => by cases h)
    rw [T]
    refine ⟨fun q => by omega, fun q => by omega, fun q => by omega, fun q => by omega, fun q => by omega, fun q => by omega, fun q => by omega, fun _ => xe_join (by omega) O1 ⟨hs, hall, hB1, hB2, by omega, by omega, hp1, hp2, hq, by omega, n2.1, hpr hsz, h256, hlw, n2.2, hcol, hkk, m20, m21⟩ n1.2 hr fun M' O' => fin zz2 O' (by rw [ex]) (by rw [ex]) (by rw [ex]), fun q => by omega, fun q => by omega, fun q => by omega, fun q => by omega, fun q => by omega⟩
  · obtain ⟨a, b, rfl, rfl, ha, hb, hw⟩ := hok
    obtain ⟨p1, hB1, hp1⟩ := blk (Or.inl rfl)
    obtain ⟨p2, hB2, hp2⟩ := blk (Or.inr rfl)
    have n1 := hbnd a (Or.inl rfl)
    have n2 := hbnd b (Or.inr rfl)
    rw [← hw] at hB2 hp2
    have hr : q + ((A a).2 ++ (A b).2).flatten.length ≤ 600000 := hr
    refine sw _ (fun x h => by cases h; rfl) (fun {M1} _ => go39 (w := (A a).1) fun M1 eM O1 => ?_) (fun _ h => by cases h)
    rw [T]
    refine ⟨fun q => by omega, fun q => by omega, fun q => by omega, fun q => by omega, fun q => by omega, fun q => by omega, fun q => by omega, fun q => by omega, fun _ => xe_copyAll (O := []) (by omega) hs (by simpa using O1) hB1 (by omega) hp1 hq (by rw [List.nil_append]; rw [List.flatten_append, List.length_append] at hr; omega) (by omega) fun M' O' => xe_copyAll (O := (A a).2) (by omega) hs (by simpa using O') hB2 (by omega) hp2 hq hr (by omega) fun M'' O'' => fin zz0 O'' rfl rfl rfl, fun q => by omega, fun q => by omega, fun q => by omega, fun q => by omega⟩
  · obtain ⟨a, b, rfl, rfl, ha, hb, hw, h256⟩ := hok
    obtain ⟨p1, hB1, hp1⟩ := blk (Or.inl rfl)
    obtain ⟨p2, hB2, hp2⟩ := blk (Or.inr rfl)
    have n1 := hbnd a (Or.inl rfl)
    have n2 := hbnd b (Or.inr rfl)
    rw [← hw] at hB2 hp2
    refine sw _ (fun x h => by cases h; rfl) (fun {M1} _ => go39 (w := (A a).1) fun M1 eM O1 => ?_) (fun _ h => by cases h)
    rw [T]
    refine ⟨fun q => by omega, fun q => by omega, fun q => by omega, fun q => by omega, fun q => by omega, fun q => by omega, fun q => by omega, fun q => by omega, fun q => by omega, fun _ => fX5_step_206 (xe_apart (sh := false) (by omega) hs O1 m15 hall hB1 hB2 (by omega) (by omega) hp1 hp2 hq (by omega) n2.1 h256 hr fun M' O' => fin zz2 O' rfl rfl rfl), fun q => by omega, fun q => by omega, fun q => by omega⟩
  · obtain ⟨a, b, rfl, rfl, ha, hb, hw, h256⟩ := hok
    obtain ⟨p1, hB1, hp1⟩ := blk (Or.inl rfl)
    obtain ⟨p2, hB2, hp2⟩ := blk (Or.inr rfl)
    have n1 := hbnd a (Or.inl rfl)
    have n2 := hbnd b (Or.inr rfl)
    rw [← hw] at hB2 hp2
    refine sw _ (fun x h => by cases h; rfl) (fun {M1} _ => go39 (w := (A a).1) fun M1 eM O1 => ?_) (fun _ h => by cases h)
    rw [T]
    refine ⟨fun q => by omega, fun q => by omega, fun q => by omega, fun q => by omega, fun q => by omega, fun q => by omega, fun q => by omega, fun q => by omega, fun q => by omega, fun q => by omega, fun _ => fX5_step_206 (xe_apart (sh := true) (by omega) hs O1 m15 hall hB1 hB2 (by omega) (by omega) hp1 hp2 hq (by omega) n2.1 h256 hr fun M' O' => fin zz2 O' rfl rfl rfl), fun q => by omega, fun q => by omega⟩
  · obtain ⟨a, rfl, rfl, ha, h256⟩ := hok
    obtain ⟨p1, hB1, hp1⟩ := blk (Or.inl rfl)
    have n1 := hbnd a (Or.inl rfl)
    refine sw _ (fun x h => by cases h; rfl) (fun {M1} _ => go39 (w := (A a).1) fun M1 eM O1 => ?_) (fun _ h => by cases h)
    rw [T]
    refine ⟨fun q => by omega, fun q => by omega, fun q => by omega, fun q => by omega, fun q => by omega, fun q => by omega, fun q => by omega, fun q => by omega, fun q => by omega, fun q => by omega, fun q => by omega, fun _ => xe_unique (by omega) hs O1 hall hB1 (by omega) hp1 hq n1.1 h256 hr fun M' O' => fin zz2 O' rfl rfl rfl, fun q => by omega⟩
  · obtain ⟨a, kk, c, rfl, rfl, ha, hsz, h256, hcol, rfl, hkk, rfl, hc⟩ := hok
    obtain ⟨p1, hB1, hp1⟩ := blk (Or.inl rfl)
    have n1 := hbnd a (Or.inl rfl)
    have ec : (nI kk).toNatClampNeg = kk := nI_clamp (by omega)
    have ec2 : (nI c).toNatClampNeg = c := nI_clamp (by omega)
    have ex : ex_step tc tb A (11, some a, none, size, ls, nI kk, nI c) = (ls.length + 1, ex_gath ls kk c (A a).2) := by
      show (size + 1, ex_gath ls (nI kk).toNatClampNeg (nI c).toNatClampNeg (A a).2) = _
      rw [ec, ec2, hsz]
    rw [ex] at hr
    refine sw _ (fun x h => by cases h; rfl) (fun {M1} _ => go39 (w := (A a).1) fun M1 eM O1 => ?_) (fun _ h => by cases h)
    rw [T]
    refine ⟨fun q => by omega, fun q => by omega, fun q => by omega, fun q => by omega, fun q => by omega, fun q => by omega, fun q => by omega, fun q => by omega, fun q => by omega, fun q => by omega, fun q => by omega, fun q => by omega, fun _ => xe_gather (by omega) O1 ⟨hs, hB1, by omega, hp1, hq, n1.1, hpr hsz, h256, hcol, hkk, m20, m21, hc, n1.2⟩ hr fun M' O' => fin zz1 O' (by rw [ex]) (by rw [ex]) (by rw [ex])⟩
  · obtain ⟨a, m, rfl, rfl, ha, hsz, rfl, hm⟩ := hok
    obtain ⟨p1, hB1, hp1⟩ := blk (Or.inl rfl)
    have n1 := hbnd a (Or.inl rfl)
    have ec : (nI m).toNatClampNeg = m := nI_clamp (by omega)
    have ex : ex_step tc tb A (12, some a, none, size, ls, k, nI m) = ((A a).1, ex_top size m none 0 (sm_srt (A a).2)) := by
      show ((A a).1, ex_top size (nI m).toNatClampNeg none 0 (sm_srt (A a).2)) = _
      rw [ec]
    rw [ex] at hr
    refine sw _ (fun x h => by cases h; rfl) (fun {M1} _ => go39 (w := (A a).1) fun M1 eM O1 => ?_) (fun _ h => by cases h)
    rw [T]
    refine ⟨fun _ => xe_top (by omega) hs O1 hB1 (by omega) hp1 hq n1.1 n1.2 hsz m19 m21 hm hr fun M' O' => fin zz0 O' (by rw [ex]) (by rw [ex]) (by rw [ex]), fun q => by omega, fun q => by omega, fun q => by omega, fun q => by omega, fun q => by omega, fun q => by omega, fun q => by omega, fun q => by omega, fun q => by omega, fun q => by omega, fun q => by omega, fun q => by omega⟩
end XE
