/-! CONTRACTS of ApplyFree$Executor: run -/
def xe_rb (Ls : List cp_St) (s t : Nat) : Bool := match Ls[s]? with
  | none => false
  | some st => st.2.1 == some t || st.2.2.1 == some t
/-- the last step before k that is t or needs it -/
def xe_nd (Ls : List cp_St) : Nat → Nat → Nat
  | 0, _ => 0
  | k + 1, t => if k = t ∨ xe_rb Ls k t = true then k else xe_nd Ls k t
def xe_ND (Ls : List cp_St) (last t : Nat) : Nat := if t = last then Ls.length else xe_nd Ls Ls.length t
/-- steps whose rows are there when step s begins -/
def xe_lv (Ls : List cp_St) (last s : Nat) : List Nat := (List.range s).filter (fun t => decide (s ≤ xe_ND Ls last t))
theorem xe_nd_ge {Ls : List cp_St} {s t : Nat} : ∀ {k : Nat}, s < k → (s = t ∨ xe_rb Ls s t = true) → s ≤ xe_nd Ls k t
  | 0, h, _ => by omega
  | k + 1, h, hr => by
    unfold xe_nd
    split
    · omega
    · rename_i q
      by_cases e : s = k
      · subst e; exact absurd hr q
      · exact xe_nd_ge (by omega) hr
theorem xe_nd_lt {Ls : List cp_St} {t : Nat} : ∀ {k : Nat}, 0 < k → xe_nd Ls k t < k
  | 0, h => by omega
  | k + 1, _ => by
    unfold xe_nd
    split
    · omega
    · by_cases e : k = 0
      · subst e; unfold xe_nd; omega
      · have := xe_nd_lt (Ls := Ls) (t := t) (k := k) (by omega)
        omega
theorem xe_lv_s {Ls : List cp_St} {last s : Nat} (hs : s < Ls.length) : (xe_lv Ls last s ++ [s]).filter (fun t => decide (s < xe_ND Ls last t)) = xe_lv Ls last (s + 1) := by
  unfold xe_lv
  rw [List.range_succ, List.filter_append, List.filter_append, List.filter_filter]
  congr 1
  · apply List.filter_congr
    intro t _
    by_cases h : s < xe_ND Ls last t
    · have h2 : s ≤ xe_ND Ls last t := by omega
      have h3 : s + 1 ≤ xe_ND Ls last t := by omega
      simp [h, h2, h3]
    · have h3 : ¬ s + 1 ≤ xe_ND Ls last t := by omega
      simp [h, h3]
theorem xe_lv_nodup {Ls : List cp_St} {last s : Nat} : (xe_lv Ls last s ++ [s]).Nodup := by
  rw [List.nodup_append]
  refine ⟨List.Pairwise.sublist List.filter_sublist List.nodup_range, by simp, fun a ha b hb e => ?_⟩
  have h1 := List.mem_range.mp (List.mem_filter.mp ha).1
  rw [List.mem_singleton] at hb
  omega
theorem xe_lv_len {Ls : List cp_St} {last s : Nat} : (xe_lv Ls last s).length ≤ s := Nat.le_trans (List.length_filter_le _ _) (by simp)
section XE
variable {d : Nat} {L : wd_L}
theorem xe_need {z : wd_Z} {M : wd_M} {o : Option Nat} {s : Nat} {K : wd_Z → wd_M → wd_L → Prop} (ho : ∀ a, o = some a → a < 32768) (hK : ∀ M', (∀ c, c ≠ 642 → M' c = M c) → (∀ t, M' 642 t = if o = some t then nI s else M 642 t) → K z M' L) : wRunV (d, 0, 0) mX5_need [.ref 628, .int (ak_o o), .int (nI s)] z M L K := by
  refine fX5_need_e ?_
  cases o with
  | none => exact ⟨fun _ => wQv_i (hK M (fun _ _ => rfl) fun t => by simp), fun e => absurd ak_m1 e⟩
  | some a =>
    have ha := ho a rfl
    have e1 : (ak_o (some a)).toNatClampNeg = a := nI_clamp (by omega)
    rw [e1]
    refine ⟨fun e => absurd e (nI_pos (by omega)), fun _ => ⟨vp_in_nI ha (by omega), wQv_i (hK _ (fun c hc => ak_up_cell hc) fun t => ?_)⟩⟩
    by_cases e : a = t
    · subst e; rw [ak_up_same, if_pos rfl]
    · rw [ak_up_ne (fun h => e h.symm), if_neg (fun h => e (Option.some.inj h))]
theorem xe_run_12 {z : wd_Z} {M0 : wd_M} {Ls : List cp_St} {u last : Nat} {K : wd_Z → wd_M → wd_L → Prop} (hn : Ls.length ≤ 32768) (hlast : last < Ls.length) (hst : ∀ (s : Nat) (st : cp_St), Ls[s]? = some st → rx_st M0 u s st) (h14 : M0 14 0 = nI Ls.length) (href : ∀ (s : Nat) (st : cp_St), Ls[s]? = some st → ∀ a, st.2.1 = some a ∨ st.2.2.1 = some a → a < s)
    (hK : ∀ M', (∀ c, c ≠ 642 → M' c = M0 c) → (∀ t, t < Ls.length → M' 642 t = nI (xe_ND Ls last t)) → wRun (d + 1, 0, 0) mX5_run 79 [some (.ref 628), none, some (.int (nI 0))] [] z M' L (wQv K)) :
    ∀ (n i : Nat) (M : wd_M), i + n = Ls.length → (∀ c, c ≠ 642 → M c = M0 c) → (∀ t, t < i → M 642 t = nI (xe_nd Ls i t)) → wRun (d + 1, 0, 0) mX5_run 12 [some (.ref 628), some (.int (nI last)), some (.int (nI i))] [] z M L (wQv K)
  | 0, i, M, hi, hM, hN => by
    have ei : i = Ls.length := by omega
    subst ei
    refine fX5_run_12 ?_
    rw [hM 14 (by omega), h14, nI_clamp (show last < 2 ^ 31 by omega)]
    refine ⟨fun _ => ⟨vp_in_nI (by omega) (by omega), hK _ (fun c hc => by rw [ak_up_cell hc]; exact hM c hc) fun t ht => ?_⟩, fun q => absurd (nI_le (Nat.le_refl _) (by omega)) q⟩
    unfold xe_ND
    by_cases e : t = last
    · rw [e, ak_up_same, if_pos rfl]
    · rw [ak_up_ne e, if_neg e]; exact hN t ht
  | n + 1, i, M, hi, hM, hN => by
    obtain ⟨st, hs⟩ := sl_idx (show i < Ls.length by omega)
    obtain ⟨-, m16, m17, -⟩ := hst i st hs
    have hr := href i st hs
    have hin : vp_in (nI i) 32768 := vp_in_nI (by omega) (by omega)
    refine fX5_run_12 ?_
    have e16 : am_up2 M 642 i (nI i) 16 i = ak_o st.2.1 := by rw [ak_up_cell (by omega), hM 16 (by omega)]; exact m16
    rw [hM 14 (by omega), h14, nI_clamp (show i < 2 ^ 31 by omega), e16]
    refine ⟨fun q => absurd q (nI_ge (by omega) (by omega)), fun _ => ⟨hin, hin, xe_need (fun a ha => by have := hr a (Or.inl ha); omega) fun M1 f1 g1 => ⟨hin, ?_⟩⟩⟩
    rw [f1 17 (by omega), ak_up_cell (by omega), hM 17 (by omega), m17, nI_1]
    refine xe_need (fun a ha => by have := hr a (Or.inr ha); omega) fun M2 f2 g2 => ?_
    refine xe_run_12 hn hlast hst h14 href hK n (i + 1) M2 (by omega) (fun c hc => by rw [f2 c hc, f1 c hc, ak_up_cell hc]; exact hM c hc) fun t ht => ?_
    rw [g2, g1]
    unfold xe_nd xe_rb
    rw [hs]
    dsimp only
    by_cases h1 : st.2.2.1 = some t
    · rw [if_pos h1, if_pos (Or.inr (by simp [h1]))]
    · rw [if_neg h1]
      by_cases h2 : st.2.1 = some t
      · rw [if_pos h2, if_pos (Or.inr (by simp [h2]))]
      · rw [if_neg h2]
        by_cases h3 : i = t
        · subst h3
          rw [ak_up_same, if_pos (Or.inl rfl)]
        · rw [ak_up_ne (fun h => h3 h.symm), if_neg (by simp [h1, h2, h3])]
          exact hN t (by omega)
/-- what a run has at hand -/
def xe_rn (M0 : wd_M) (tc : Nat → Nat) (tb : Nat → List ay_Row) (nt : Nat) (A : xe_A) (Ls : List cp_St) (u last : Nat) : Prop :=
  Ls.length ≤ 32768 ∧ u ≤ 524288 ∧ last < Ls.length ∧ rx_S M0 (Ls, u) ∧ (∀ s st, Ls[s]? = some st → xe_ok tc nt A s st ∧ A s = ex_step tc tb A st ∧ sl_W (A s).1 (A s).2 ∧ (A s).2.length ≤ 8192 ∧ (A s).1 < 100000 ∧ xe_sz A (xe_lv Ls last s) + xe_1 A s ≤ 600000) ∧ xe_all M0
theorem xe_ok_ref {tc : Nat → Nat} {nt : Nat} {A : xe_A} {s : Nat} {st : cp_St} (h : xe_ok tc nt A s st) : ∀ a, st.2.1 = some a ∨ st.2.2.1 = some a → a < s := by
  obtain ⟨op, l, r, size, ls, k, v⟩ := st
  intro a ha
  dsimp only at ha
  have hop : op ≤ 12 := by
    refine Nat.not_lt.mp fun h' => ?_
    obtain ⟨j, hj⟩ : ∃ j, op = j + 13 := ⟨op - 13, by omega⟩
    subst hj
    exact h
  have o13 : op = 0 ∨ op = 1 ∨ op = 2 ∨ op = 3 ∨ op = 4 ∨ op = 5 ∨ op = 6 ∨ op = 7 ∨ op = 8 ∨ op = 9 ∨ op = 10 ∨ op = 11 ∨ op = 12 := by omega
  have two : ∀ {x y : Nat}, l = some x → r = some y → x < s → y < s → a < s := fun {x y} e1 e2 h1 h2 => by
    rcases ha with e | e
    · rw [e1] at e; cases e; exact h1
    · rw [e2] at e; cases e; exact h2
  have one : ∀ {x : Nat}, l = some x → r = none → x < s → a < s := fun {x} e1 e2 h1 => by
    rcases ha with e | e
    · rw [e1] at e; cases e; exact h1
    · rw [e2] at e; cases e
  have zero : l = none → r = none → a < s := fun e1 e2 => by
    rcases ha with e | e
    · rw [e1] at e; cases e
    · rw [e2] at e; cases e
  rcases o13 with rfl | rfl | rfl | rfl | rfl | rfl | rfl | rfl | rfl | rfl | rfl | rfl | rfl
  · exact zero h.1 h.2
  · exact zero h.1 h.2.1
  · obtain ⟨x, y, h1, h2, h3, h4⟩ := h; exact two h1 h2 h3 h4
  · obtain ⟨x, h1, h2, h3, -⟩ := h; exact one h1 h2 h3
  · obtain ⟨x, h1, h2, h3, -⟩ := h; exact one h1 h2 h3
  · obtain ⟨x, h1, h2, h3, -⟩ := h; exact one h1 h2 h3
  · obtain ⟨x, y, k', h1, h2, h3, h4, -⟩ := h; exact two h1 h2 h3 h4
  · obtain ⟨x, y, h1, h2, h3, h4, -⟩ := h; exact two h1 h2 h3 h4
  · obtain ⟨x, y, h1, h2, h3, h4, -⟩ := h; exact two h1 h2 h3 h4
  · obtain ⟨x, y, h1, h2, h3, h4, -⟩ := h; exact two h1 h2 h3 h4
  · obtain ⟨x, h1, h2, h3, -⟩ := h; exact one h1 h2 h3
  · obtain ⟨x, k', c, h1, h2, h3, -⟩ := h; exact one h1 h2 h3
  · obtain ⟨x, m, h1, h2, h3, -⟩ := h; exact one h1 h2 h3
theorem xe_run_79 {z0 : wd_Z} {M0 : wd_M} {tc : Nat → Nat} {tb : Nat → List ay_Row} {nt : Nat} {A : xe_A} {Ls : List cp_St} {u last : Nat} {K : wd_Z → wd_M → wd_L → Prop} (hd : 8 ≤ d) (hr : xe_rn M0 tc tb nt A Ls u last) (htb : ∀ t, t < nt → tb_T z0 M0 t (tc t) (tb t) ∧ tc t ≤ 4 ∧ t < 6)
    (hK : ∀ z' M', (z'.1 = z0.1 ∧ z'.2.1 = z0.2.1 ∧ z'.2.2.1 = z0.2.2.1) → (∀ c, c < 628 ∨ 648 < c → M' c = M0 c) → xe_all M' → (∃ p, xe_B M' last p (A last).1 (A last).2 ∧ p + xe_1 A last ≤ 600000) → K z' M' L) :
    ∀ (n s : Nat) (z : wd_Z) (M : wd_M), s + n = Ls.length → (z.1 = z0.1 ∧ z.2.1 = z0.2.1 ∧ z.2.2.1 = z0.2.2.1) → (∀ c, c < 628 ∨ 648 < c → M c = M0 c) → M 644 = M0 644 → (∀ t, t < Ls.length → M 642 t = nI (xe_ND Ls last t)) → xe_L M A 0 (xe_lv Ls last s) → sl_at (M 643) 0 (xe_nl (xe_lv Ls last s)) → M 628 11 = nI (xe_lv Ls last s).length → M 628 5 = nI (xe_sz A (xe_lv Ls last s)) → xe_sz A (xe_lv Ls last s) ≤ 600000 →
      wRun (d + 1, 0, 0) mX5_run 79 [some (.ref 628), none, some (.int (nI s))] [] z M L (wQv K)
  | 0, s, z, M, hs, hz, hM, h44, hN, hL, hT, h11, h5, hsz => by
    obtain ⟨hn, hu, hlast, hS, hall', hal⟩ := id hr
    have es : s = Ls.length := by omega
    subst es
    refine fX5_run_79 ?_
    rw [hM 14 (by omega), hS.1]
    refine ⟨fun _ => wQv_i (hK z M hz hM (xe_all_fr hal h44) ?_), fun q => absurd (nI_le (Nat.le_refl _) (by dsimp only; omega)) q⟩
    have hm : last ∈ xe_lv Ls last Ls.length := by
      unfold xe_lv
      rw [List.mem_filter, List.mem_range]
      refine ⟨hlast, ?_⟩
      unfold xe_ND
      rw [if_pos rfl]; simp
    obtain ⟨p, hB, -, h3⟩ := xe_L_at hL hm
    exact ⟨p, hB, by omega⟩
  | n + 1, s, z, M, hs, hz, hM, h44, hN, hL, hT, h11, h5, hsz => by
    obtain ⟨hn, hu, hlast, hS, hall', hal⟩ := id hr
    obtain ⟨st, hst⟩ := sl_idx (show s < Ls.length by omega)
    obtain ⟨hok, hA, hW, h8, hw, hroom⟩ := hall' s st hst
    have hsl : s < 32768 := by omega
    have hin : vp_in (nI s) 32768 := vp_in_nI hsl (by omega)
    have hlvl := xe_lv_len (Ls := Ls) (last := last) (s := s)
    refine fX5_run_79 ?_
    rw [hM 14 (by omega), hS.1, nI_clamp (show s < 2 ^ 31 by omega), h5]
    refine ⟨fun q => absurd q (nI_ge (show s < Ls.length by omega) (show Ls.length < 2 ^ 31 by omega)), fun _ => ⟨hin, hin, ?_⟩⟩
    generalize hM1 : am_up2 (am_up2 M 639 s (nI (xe_sz A (xe_lv Ls last s)))) 640 s 0 = M1
    have F1 : ∀ c, c ≠ 639 → c ≠ 640 → M1 c = M c := fun c c1 c2 => by rw [← hM1, ak_up_cell c2, ak_up_cell c1]
    have hmlv : ∀ {t : Nat}, t ∈ xe_lv Ls last s → t < s := fun h => List.mem_range.mp (List.mem_filter.mp h).1
    have L1 : xe_L M1 A 0 (xe_lv Ls last s) := xe_L_mv hL (fun t ht => by
      have := hmlv ht
      exact ⟨by rw [← hM1, ak_up_cell (by omega), ak_up_ne (by omega)], by rw [← hM1, ak_up_ne (by omega), ak_up_cell (by omega)], by rw [F1 641 (by omega) (by omega)]⟩) fun i _ _ => by rw [F1 638 (by omega) (by omega)]
    have hst1 : rx_st M1 u s st := by
      have := hS.2.2 s st hst
      have e : ∀ c, c < 628 → M1 c = M0 c := fun c hc => by rw [F1 c (by omega) (by omega), hM c (by omega)]
      unfold rx_st at *
      rw [e 15 (by omega), e 16 (by omega), e 17 (by omega), e 18 (by omega), e 19 (by omega), e 20 (by omega), e 21 (by omega), e 22 (by omega)]
      exact this
    have href := xe_ok_ref hok
    have hlive : ∀ a, st.2.1 = some a ∨ st.2.2.1 = some a → a ∈ xe_lv Ls last s := fun a ha => by
      have h1 := href a ha
      unfold xe_lv
      rw [List.mem_filter, List.mem_range]
      refine ⟨h1, ?_⟩
      rw [decide_eq_true_eq]
      unfold xe_ND
      split
      · omega
      · refine xe_nd_ge (by omega) (Or.inr ?_)
        unfold xe_rb
        rw [hst]
        dsimp only
        rcases ha with h | h <;> simp [h]
    have htb1 : ∀ t, t < nt → tb_T z M1 t (tc t) (tb t) ∧ tc t ≤ 4 ∧ t < 6 := fun t ht => by
      obtain ⟨g1, g2, g3⟩ := htb t ht
      refine ⟨?_, g2, g3⟩
      have : tb_T z M0 t (tc t) (tb t) := by
        unfold tb_T at *
        rw [hz.2.1, hz.2.2]; exact g1
      exact tb_T_fr this fun c hc => by rw [F1 c (by omega) (by omega), hM c (by omega)]
    rw [← hM1]
    rw [hM1]
    refine xe_step (A := A) (tc := tc) (tb := tb) (q := xe_sz A (xe_lv Ls last s)) hd hsl hst1 hu hok htb1 (xe_all_fr hal (by rw [F1 644 (by omega) (by omega)]; exact h44)) (fun a ha => ?_) (fun a ha => ?_) (by rw [F1 628 (by omega) (by omega)]; exact h5) hsz (by rw [← hM1, ak_up_same]; rfl) ?_ fun z2 M2 hz2 O2 => ?_
    · obtain ⟨p, g1, -, g3⟩ := xe_L_at L1 (hlive a ha)
      exact ⟨p, g1, by omega⟩
    · obtain ⟨st', hst'⟩ := sl_idx (show a < Ls.length by have := href a ha; omega)
      have := hall' a st' hst'
      exact ⟨this.2.2.2.1, this.2.2.2.2.1⟩
    · rw [← hA, sl_flen hW]; exact hroom
    rw [← hA] at O2
    obtain ⟨f2, o5, o40, o41, o38⟩ := O2
    obtain ⟨a1, a2, a3, a4, a5, a6, a7, a8, a9⟩ := f2
    have e11 : M2 628 11 = nI (xe_lv Ls last s).length := by rw [a2 11 (by omega), F1 628 (by omega) (by omega)]; exact h11
    rw [e11, nI_1, nI_clamp (show (xe_lv Ls last s).length < 2 ^ 31 by omega)]
    refine ⟨vp_in_nI (by omega) (by omega), ?_⟩
    generalize hM3 : am_up2 (am_up2 M2 628 11 (nI ((xe_lv Ls last s).length + 1))) 643 (xe_lv Ls last s).length (nI s) = M3
    have F3 : ∀ c, c ≠ 628 → c ≠ 643 → M3 c = M2 c := fun c c1 c2 => by rw [← hM3, ak_up_cell c2, ak_up_cell c1]
    have L3 : xe_L M3 A 0 (xe_lv Ls last s ++ [s]) := by
      rw [xe_L_app]
      refine ⟨xe_L_mv L1 (fun t ht => ?_) fun i _ hi => ?_, ⟨hsl, ?_, ?_, ?_, hW, ?_⟩, trivial⟩
      · have := hmlv ht
        exact ⟨by rw [F3 639 (by omega) (by omega), a3], by rw [F3 640 (by omega) (by omega), a4 t (by omega)], by rw [F3 641 (by omega) (by omega), a5 t (by omega)]⟩
      · rw [F3 638 (by omega) (by omega), a9 i (by omega)]
      · rw [F3 639 (by omega) (by omega), a3, ← hM1, ak_up_cell (by omega), ak_up_same, Nat.zero_add]
      · rw [F3 640 (by omega) (by omega)]; exact o40
      · rw [F3 641 (by omega) (by omega)]; exact o41
      · rw [F3 638 (by omega) (by omega), Nat.zero_add]; exact o38
    have T3 : sl_at (M3 643) 0 (xe_nl (xe_lv Ls last s ++ [s])) := by
      unfold xe_nl at *
      rw [List.map_append, sl_app, List.length_map, ← hM3, ak_up_own, ak_up_cell (by omega), a7, F1 643 (by omega) (by omega)]
      exact ⟨sl_upd hT (by rw [List.length_map]; omega), sl_one.mpr (by rw [Nat.zero_add, pk_us])⟩
    have sz3 : xe_sz A (xe_lv Ls last s ++ [s]) = xe_sz A (xe_lv Ls last s) + xe_1 A s := by rw [xe_sz_app, xe_sz_cons, xe_sz_nil, Nat.add_zero]
    have ND3 : ∀ t, t < Ls.length → M3 642 t = nI (xe_ND Ls last t) := fun t ht => by rw [F3 642 (by omega) (by omega), a6, F1 642 (by omega) (by omega)]; exact hN t ht
    have nlt : ∀ t, xe_ND Ls last t < 100000 := fun t => by
      unfold xe_ND
      split
      · omega
      · have := xe_nd_lt (Ls := Ls) (t := t) (k := Ls.length) (by omega); omega
    refine xe_tidy (A := A) (ND := xe_ND Ls last) (lv := xe_lv Ls last s ++ [s]) (by omega) hsl (by rw [List.length_append]; show _ + 1 ≤ _; omega) (fun t ht => ⟨ND3 t ?_, nlt t⟩) (by rw [← hM3, ak_up_cell (by omega), ak_up_same, List.length_append]; rfl) (by omega) xe_lv_nodup L3 T3 fun M4 t1 t2 t3 t4 t5 => ?_
    · rcases List.mem_append.mp ht with h | h
      · have := hmlv h; omega
      · rw [List.mem_singleton] at h; omega
    rw [xe_lv_s (by omega)] at t2 t3 t4 t5
    rw [nI_1]
    have sz4 : xe_sz A (xe_lv Ls last (s + 1)) ≤ 600000 := by
      rw [← xe_lv_s (show s < Ls.length by omega)]
      have sub : ∀ l : List Nat, xe_sz A (l.filter (fun t => decide (s < xe_ND Ls last t))) ≤ xe_sz A l := fun l => by
        induction l with
        | nil => exact Nat.le_refl _
        | cons x l ih =>
          rw [List.filter_cons]
          split
          · rw [xe_sz_cons, xe_sz_cons]; omega
          · rw [xe_sz_cons]; omega
      have := sub (xe_lv Ls last s ++ [s])
      omega
    have hz3 : z2.1 = z0.1 ∧ z2.2.1 = z0.2.1 ∧ z2.2.2.1 = z0.2.2.1 := by
      rcases hz2 with rfl | rfl | rfl
      · exact hz
      · exact hz
      · exact hz
    refine xe_run_79 hd hr htb hK n (s + 1) z2 M4 (by omega) hz3 (fun c hc => ?_) ?_ (fun t ht => ?_) t2 t3 t4 t5 sz4
    · rw [t1.1 c (by omega) (by omega) (by omega) (by omega), F3 c (by omega) (by omega), a1 c hc, F1 c (by omega) (by omega), hM c hc]
    · rw [t1.1 644 (by omega) (by omega) (by omega) (by omega), F3 644 (by omega) (by omega), a8, F1 644 (by omega) (by omega), h44]
    · rw [t1.1 642 (by omega) (by omega) (by omega) (by omega)]; exact ND3 t ht
/-- all steps are done; the rows of the last one are there -/
theorem xe_run {z : wd_Z} {M : wd_M} {tc : Nat → Nat} {tb : Nat → List ay_Row} {nt : Nat} {A : xe_A} {Ls : List cp_St} {u last : Nat} {K : wd_Z → wd_M → wd_L → Prop} (hd : 9 ≤ d) (hr : xe_rn M tc tb nt A Ls u last) (htb : ∀ t, t < nt → tb_T z M t (tc t) (tb t) ∧ tc t ≤ 4 ∧ t < 6)
    (hK : ∀ z' M', (z'.1 = z.1 ∧ z'.2.1 = z.2.1 ∧ z'.2.2.1 = z.2.2.1) → (∀ c, c < 628 ∨ 648 < c → M' c = M c) → xe_all M' → (∃ p, xe_B M' last p (A last).1 (A last).2 ∧ p + xe_1 A last ≤ 600000) → K z' M' L) : wRunV (d, 0, 0) mX5_run [.ref 628, .int (nI last)] z M L K := by
  obtain ⟨d, rfl, hd'⟩ := ak_deep hd
  obtain ⟨hn, hu, hlast, hS, hall', hal⟩ := id hr
  refine fX5_run_e ?_
  rw [ak_n0]
  generalize hM1 : am_up2 (am_up2 M 628 5 (nI 0)) 628 11 (nI 0) = M1
  have F1 : ∀ c, c ≠ 628 → M1 c = M c := fun c hc => by rw [← hM1, ak_up_cell hc, ak_up_cell hc]
  have hS1 : rx_S M1 (Ls, u) := rx_S_fr hS fun c c1 c2 => F1 c (by omega)
  have hr1 : xe_rn M1 tc tb nt A Ls u last := ⟨hn, hu, hlast, hS1, hall', xe_all_fr hal (F1 644 (by omega))⟩
  have htb1 : ∀ t, t < nt → tb_T z M1 t (tc t) (tb t) ∧ tc t ≤ 4 ∧ t < 6 := fun t ht => ⟨tb_T_fr (htb t ht).1 fun c hc => F1 c (by omega), (htb t ht).2⟩
  refine xe_run_12 (d := d) (M0 := M1) hn hlast (fun s st h => hS1.2.2 s st h) hS1.1 (fun s st h => xe_ok_ref (hall' s st h).1) (fun M2 f2 n2 => ?_) Ls.length 0 M1 (by omega) (fun _ _ => rfl) (fun t ht => by omega)
  refine xe_run_79 (d := d) (z0 := z) (M0 := M1) hd' hr1 htb1 (fun z' M' h1 h2 h3 h4 => hK z' M' h1 (fun c hc => by rw [h2 c hc, F1 c (by omega)]) h3 h4) Ls.length 0 z M2 (by omega) ⟨rfl, rfl, rfl⟩ (fun c hc => f2 c (by omega)) (f2 644 (by omega)) n2 (by unfold xe_lv; exact trivial) (by unfold xe_lv xe_nl; simpa using sl_nil) ?_ ?_ ?_
  · rw [f2 628 (by omega), ← hM1, ak_up_same]; rfl
  · rw [f2 628 (by omega), ← hM1, ak_up_ne (by omega), ak_up_same]; rfl
  · show 0 ≤ 600000; omega
end XE
